set_option maxRecDepth 100000
theorem dd_J0_abs : yJ0_abs.cls ≠ "java/lang/invoke/MethodHandle" ∧ yJ0_abs.cls ≠ "java/lang/invoke/VarHandle" ∧ (parseMethodDescriptor yJ0_abs.desc).map (fun d => d.parameters.length) = some 1 := by decide +kernel
theorem dd_J0_addExact : yJ0_addExact.cls ≠ "java/lang/invoke/MethodHandle" ∧ yJ0_addExact.cls ≠ "java/lang/invoke/VarHandle" ∧ (parseMethodDescriptor yJ0_addExact.desc).map (fun d => d.parameters.length) = some 2 := by decide +kernel
theorem dd_J0_max : yJ0_max.cls ≠ "java/lang/invoke/MethodHandle" ∧ yJ0_max.cls ≠ "java/lang/invoke/VarHandle" ∧ (parseMethodDescriptor yJ0_max.desc).map (fun d => d.parameters.length) = some 2 := by decide +kernel
theorem dd_J0_min : yJ0_min.cls ≠ "java/lang/invoke/MethodHandle" ∧ yJ0_min.cls ≠ "java/lang/invoke/VarHandle" ∧ (parseMethodDescriptor yJ0_min.desc).map (fun d => d.parameters.length) = some 2 := by decide +kernel
theorem dd_J0_multiplyExact : yJ0_multiplyExact.cls ≠ "java/lang/invoke/MethodHandle" ∧ yJ0_multiplyExact.cls ≠ "java/lang/invoke/VarHandle" ∧ (parseMethodDescriptor yJ0_multiplyExact.desc).map (fun d => d.parameters.length) = some 2 := by decide +kernel
theorem dd_J0_toIntExact : yJ0_toIntExact.cls ≠ "java/lang/invoke/MethodHandle" ∧ yJ0_toIntExact.cls ≠ "java/lang/invoke/VarHandle" ∧ (parseMethodDescriptor yJ0_toIntExact.desc).map (fun d => d.parameters.length) = some 1 := by decide +kernel
theorem dd_J10_init : yJ10_init.cls ≠ "java/lang/invoke/MethodHandle" ∧ yJ10_init.cls ≠ "java/lang/invoke/VarHandle" ∧ (parseMethodDescriptor yJ10_init.desc).map (fun d => d.parameters.length) = some 4 := by decide +kernel
theorem dd_J10_init_2 : yJ10_init_2.cls ≠ "java/lang/invoke/MethodHandle" ∧ yJ10_init_2.cls ≠ "java/lang/invoke/VarHandle" ∧ (parseMethodDescriptor yJ10_init_2.desc).map (fun d => d.parameters.length) = some 1 := by decide +kernel
theorem dd_J11_checkIndex : yJ11_checkIndex.cls ≠ "java/lang/invoke/MethodHandle" ∧ yJ11_checkIndex.cls ≠ "java/lang/invoke/VarHandle" ∧ (parseMethodDescriptor yJ11_checkIndex.desc).map (fun d => d.parameters.length) = some 2 := by decide +kernel
theorem dd_J11_coder : yJ11_coder.cls ≠ "java/lang/invoke/MethodHandle" ∧ yJ11_coder.cls ≠ "java/lang/invoke/VarHandle" ∧ (parseMethodDescriptor yJ11_coder.desc).map (fun d => d.parameters.length) = some 0 := by decide +kernel
theorem dd_J11_indexOf : yJ11_indexOf.cls ≠ "java/lang/invoke/MethodHandle" ∧ yJ11_indexOf.cls ≠ "java/lang/invoke/VarHandle" ∧ (parseMethodDescriptor yJ11_indexOf.desc).map (fun d => d.parameters.length) = some 1 := by decide +kernel
theorem dd_J11_indexOf_2 : yJ11_indexOf_2.cls ≠ "java/lang/invoke/MethodHandle" ∧ yJ11_indexOf_2.cls ≠ "java/lang/invoke/VarHandle" ∧ (parseMethodDescriptor yJ11_indexOf_2.desc).map (fun d => d.parameters.length) = some 2 := by decide +kernel
theorem dd_J11_isLatin1 : yJ11_isLatin1.cls ≠ "java/lang/invoke/MethodHandle" ∧ yJ11_isLatin1.cls ≠ "java/lang/invoke/VarHandle" ∧ (parseMethodDescriptor yJ11_isLatin1.desc).map (fun d => d.parameters.length) = some 0 := by decide +kernel
theorem dd_J11_length : yJ11_length.cls ≠ "java/lang/invoke/MethodHandle" ∧ yJ11_length.cls ≠ "java/lang/invoke/VarHandle" ∧ (parseMethodDescriptor yJ11_length.desc).map (fun d => d.parameters.length) = some 0 := by decide +kernel
theorem dd_J12_canEncode : yJ12_canEncode.cls ≠ "java/lang/invoke/MethodHandle" ∧ yJ12_canEncode.cls ≠ "java/lang/invoke/VarHandle" ∧ (parseMethodDescriptor yJ12_canEncode.desc).map (fun d => d.parameters.length) = some 1 := by decide +kernel
theorem dd_J12_charAt : yJ12_charAt.cls ≠ "java/lang/invoke/MethodHandle" ∧ yJ12_charAt.cls ≠ "java/lang/invoke/VarHandle" ∧ (parseMethodDescriptor yJ12_charAt.desc).map (fun d => d.parameters.length) = some 2 := by decide +kernel
theorem dd_J12_indexOf : yJ12_indexOf.cls ≠ "java/lang/invoke/MethodHandle" ∧ yJ12_indexOf.cls ≠ "java/lang/invoke/VarHandle" ∧ (parseMethodDescriptor yJ12_indexOf.desc).map (fun d => d.parameters.length) = some 4 := by decide +kernel
theorem dd_J12_indexOfChar : yJ12_indexOfChar.cls ≠ "java/lang/invoke/MethodHandle" ∧ yJ12_indexOfChar.cls ≠ "java/lang/invoke/VarHandle" ∧ (parseMethodDescriptor yJ12_indexOfChar.desc).map (fun d => d.parameters.length) = some 4 := by decide +kernel
theorem dd_J15_checkForComodification : yJ15_checkForComodification.cls ≠ "java/lang/invoke/MethodHandle" ∧ yJ15_checkForComodification.cls ≠ "java/lang/invoke/VarHandle" ∧ (parseMethodDescriptor yJ15_checkForComodification.desc).map (fun d => d.parameters.length) = some 0 := by decide +kernel
theorem dd_J15_init : yJ15_init.cls ≠ "java/lang/invoke/MethodHandle" ∧ yJ15_init.cls ≠ "java/lang/invoke/VarHandle" ∧ (parseMethodDescriptor yJ15_init.desc).map (fun d => d.parameters.length) = some 1 := by decide +kernel
theorem dd_J1_init : yJ1_init.cls ≠ "java/lang/invoke/MethodHandle" ∧ yJ1_init.cls ≠ "java/lang/invoke/VarHandle" ∧ (parseMethodDescriptor yJ1_init.desc).map (fun d => d.parameters.length) = some 0 := by decide +kernel
theorem dd_J2_init : yJ2_init.cls ≠ "java/lang/invoke/MethodHandle" ∧ yJ2_init.cls ≠ "java/lang/invoke/VarHandle" ∧ (parseMethodDescriptor yJ2_init.desc).map (fun d => d.parameters.length) = some 0 := by decide +kernel
theorem dd_J3_add : yJ3_add.cls ≠ "java/lang/invoke/MethodHandle" ∧ yJ3_add.cls ≠ "java/lang/invoke/VarHandle" ∧ (parseMethodDescriptor yJ3_add.desc).map (fun d => d.parameters.length) = some 1 := by decide +kernel
theorem dd_J3_add_2 : yJ3_add_2.cls ≠ "java/lang/invoke/MethodHandle" ∧ yJ3_add_2.cls ≠ "java/lang/invoke/VarHandle" ∧ (parseMethodDescriptor yJ3_add_2.desc).map (fun d => d.parameters.length) = some 3 := by decide +kernel
theorem dd_J3_elementData : yJ3_elementData.cls ≠ "java/lang/invoke/MethodHandle" ∧ yJ3_elementData.cls ≠ "java/lang/invoke/VarHandle" ∧ (parseMethodDescriptor yJ3_elementData.desc).map (fun d => d.parameters.length) = some 1 := by decide +kernel
theorem dd_J3_get : yJ3_get.cls ≠ "java/lang/invoke/MethodHandle" ∧ yJ3_get.cls ≠ "java/lang/invoke/VarHandle" ∧ (parseMethodDescriptor yJ3_get.desc).map (fun d => d.parameters.length) = some 1 := by decide +kernel
theorem dd_J3_grow : yJ3_grow.cls ≠ "java/lang/invoke/MethodHandle" ∧ yJ3_grow.cls ≠ "java/lang/invoke/VarHandle" ∧ (parseMethodDescriptor yJ3_grow.desc).map (fun d => d.parameters.length) = some 1 := by decide +kernel
theorem dd_J3_grow_2 : yJ3_grow_2.cls ≠ "java/lang/invoke/MethodHandle" ∧ yJ3_grow_2.cls ≠ "java/lang/invoke/VarHandle" ∧ (parseMethodDescriptor yJ3_grow_2.desc).map (fun d => d.parameters.length) = some 0 := by decide +kernel
theorem dd_J3_size : yJ3_size.cls ≠ "java/lang/invoke/MethodHandle" ∧ yJ3_size.cls ≠ "java/lang/invoke/VarHandle" ∧ (parseMethodDescriptor yJ3_size.desc).map (fun d => d.parameters.length) = some 0 := by decide +kernel
theorem dd_J4_hugeLength : yJ4_hugeLength.cls ≠ "java/lang/invoke/MethodHandle" ∧ yJ4_hugeLength.cls ≠ "java/lang/invoke/VarHandle" ∧ (parseMethodDescriptor yJ4_hugeLength.desc).map (fun d => d.parameters.length) = some 2 := by decide +kernel
theorem dd_J4_newLength : yJ4_newLength.cls ≠ "java/lang/invoke/MethodHandle" ∧ yJ4_newLength.cls ≠ "java/lang/invoke/VarHandle" ∧ (parseMethodDescriptor yJ4_newLength.desc).map (fun d => d.parameters.length) = some 3 := by decide +kernel
theorem dd_J5_copyOf : yJ5_copyOf.cls ≠ "java/lang/invoke/MethodHandle" ∧ yJ5_copyOf.cls ≠ "java/lang/invoke/VarHandle" ∧ (parseMethodDescriptor yJ5_copyOf.desc).map (fun d => d.parameters.length) = some 2 := by decide +kernel
theorem dd_J5_copyOf_2 : yJ5_copyOf_2.cls ≠ "java/lang/invoke/MethodHandle" ∧ yJ5_copyOf_2.cls ≠ "java/lang/invoke/VarHandle" ∧ (parseMethodDescriptor yJ5_copyOf_2.desc).map (fun d => d.parameters.length) = some 3 := by decide +kernel
theorem dd_J6_checkIndex : yJ6_checkIndex.cls ≠ "java/lang/invoke/MethodHandle" ∧ yJ6_checkIndex.cls ≠ "java/lang/invoke/VarHandle" ∧ (parseMethodDescriptor yJ6_checkIndex.desc).map (fun d => d.parameters.length) = some 2 := by decide +kernel
theorem dd_J7_checkIndex : yJ7_checkIndex.cls ≠ "java/lang/invoke/MethodHandle" ∧ yJ7_checkIndex.cls ≠ "java/lang/invoke/VarHandle" ∧ (parseMethodDescriptor yJ7_checkIndex.desc).map (fun d => d.parameters.length) = some 3 := by decide +kernel
theorem dd_J8_init_2 : yJ8_init_2.cls ≠ "java/lang/invoke/MethodHandle" ∧ yJ8_init_2.cls ≠ "java/lang/invoke/VarHandle" ∧ (parseMethodDescriptor yJ8_init_2.desc).map (fun d => d.parameters.length) = some 4 := by decide +kernel
theorem dd_J8_init_3 : yJ8_init_3.cls ≠ "java/lang/invoke/MethodHandle" ∧ yJ8_init_3.cls ≠ "java/lang/invoke/VarHandle" ∧ (parseMethodDescriptor yJ8_init_3.desc).map (fun d => d.parameters.length) = some 1 := by decide +kernel
theorem dd_J9_init : yJ9_init.cls ≠ "java/lang/invoke/MethodHandle" ∧ yJ9_init.cls ≠ "java/lang/invoke/VarHandle" ∧ (parseMethodDescriptor yJ9_init.desc).map (fun d => d.parameters.length) = some 4 := by decide +kernel
theorem dd_J9_init_2 : yJ9_init_2.cls ≠ "java/lang/invoke/MethodHandle" ∧ yJ9_init_2.cls ≠ "java/lang/invoke/VarHandle" ∧ (parseMethodDescriptor yJ9_init_2.desc).map (fun d => d.parameters.length) = some 1 := by decide +kernel
theorem dd_X0_at : yX0_at.cls ≠ "java/lang/invoke/MethodHandle" ∧ yX0_at.cls ≠ "java/lang/invoke/VarHandle" ∧ (parseMethodDescriptor yX0_at.desc).map (fun d => d.parameters.length) = some 2 := by decide +kernel
theorem dd_X0_choiceOf : yX0_choiceOf.cls ≠ "java/lang/invoke/MethodHandle" ∧ yX0_choiceOf.cls ≠ "java/lang/invoke/VarHandle" ∧ (parseMethodDescriptor yX0_choiceOf.desc).map (fun d => d.parameters.length) = some 2 := by decide +kernel
theorem dd_X0_in : yX0_in.cls ≠ "java/lang/invoke/MethodHandle" ∧ yX0_in.cls ≠ "java/lang/invoke/VarHandle" ∧ (parseMethodDescriptor yX0_in.desc).map (fun d => d.parameters.length) = some 3 := by decide +kernel
theorem dd_X0_isArgument : yX0_isArgument.cls ≠ "java/lang/invoke/MethodHandle" ∧ yX0_isArgument.cls ≠ "java/lang/invoke/VarHandle" ∧ (parseMethodDescriptor yX0_isArgument.desc).map (fun d => d.parameters.length) = some 1 := by decide +kernel
theorem dd_X0_isLanguage : yX0_isLanguage.cls ≠ "java/lang/invoke/MethodHandle" ∧ yX0_isLanguage.cls ≠ "java/lang/invoke/VarHandle" ∧ (parseMethodDescriptor yX0_isLanguage.desc).map (fun d => d.parameters.length) = some 1 := by decide +kernel
theorem dd_X0_isRow : yX0_isRow.cls ≠ "java/lang/invoke/MethodHandle" ∧ yX0_isRow.cls ≠ "java/lang/invoke/VarHandle" ∧ (parseMethodDescriptor yX0_isRow.desc).map (fun d => d.parameters.length) = some 1 := by decide +kernel
theorem dd_X0_isScale : yX0_isScale.cls ≠ "java/lang/invoke/MethodHandle" ∧ yX0_isScale.cls ≠ "java/lang/invoke/VarHandle" ∧ (parseMethodDescriptor yX0_isScale.desc).map (fun d => d.parameters.length) = some 1 := by decide +kernel
theorem dd_X0_isSlot : yX0_isSlot.cls ≠ "java/lang/invoke/MethodHandle" ∧ yX0_isSlot.cls ≠ "java/lang/invoke/VarHandle" ∧ (parseMethodDescriptor yX0_isSlot.desc).map (fun d => d.parameters.length) = some 1 := by decide +kernel
theorem dd_X0_tens : yX0_tens.cls ≠ "java/lang/invoke/MethodHandle" ∧ yX0_tens.cls ≠ "java/lang/invoke/VarHandle" ∧ (parseMethodDescriptor yX0_tens.desc).map (fun d => d.parameters.length) = some 1 := by decide +kernel
theorem dd_X0_typeOf : yX0_typeOf.cls ≠ "java/lang/invoke/MethodHandle" ∧ yX0_typeOf.cls ≠ "java/lang/invoke/VarHandle" ∧ (parseMethodDescriptor yX0_typeOf.desc).map (fun d => d.parameters.length) = some 1 := by decide +kernel
theorem dd_X0_unlike : yX0_unlike.cls ≠ "java/lang/invoke/MethodHandle" ∧ yX0_unlike.cls ≠ "java/lang/invoke/VarHandle" ∧ (parseMethodDescriptor yX0_unlike.desc).map (fun d => d.parameters.length) = some 2 := by decide +kernel
theorem dd_X15_init : yX15_init.cls ≠ "java/lang/invoke/MethodHandle" ∧ yX15_init.cls ≠ "java/lang/invoke/VarHandle" ∧ (parseMethodDescriptor yX15_init.desc).map (fun d => d.parameters.length) = some 1 := by decide +kernel
theorem dd_X1_init : yX1_init.cls ≠ "java/lang/invoke/MethodHandle" ∧ yX1_init.cls ≠ "java/lang/invoke/VarHandle" ∧ (parseMethodDescriptor yX1_init.desc).map (fun d => d.parameters.length) = some 1 := by decide +kernel
theorem dd_X1_init_2 : yX1_init_2.cls ≠ "java/lang/invoke/MethodHandle" ∧ yX1_init_2.cls ≠ "java/lang/invoke/VarHandle" ∧ (parseMethodDescriptor yX1_init_2.desc).map (fun d => d.parameters.length) = some 2 := by decide +kernel
theorem dd_X1_is : yX1_is.cls ≠ "java/lang/invoke/MethodHandle" ∧ yX1_is.cls ≠ "java/lang/invoke/VarHandle" ∧ (parseMethodDescriptor yX1_is.desc).map (fun d => d.parameters.length) = some 1 := by decide +kernel
theorem dd_X1_operand : yX1_operand.cls ≠ "java/lang/invoke/MethodHandle" ∧ yX1_operand.cls ≠ "java/lang/invoke/VarHandle" ∧ (parseMethodDescriptor yX1_operand.desc).map (fun d => d.parameters.length) = some 1 := by decide +kernel
theorem dd_X21_comesTo : yX21_comesTo.cls ≠ "java/lang/invoke/MethodHandle" ∧ yX21_comesTo.cls ≠ "java/lang/invoke/VarHandle" ∧ (parseMethodDescriptor yX21_comesTo.desc).map (fun d => d.parameters.length) = some 2 := by decide +kernel
theorem dd_X25_init : yX25_init.cls ≠ "java/lang/invoke/MethodHandle" ∧ yX25_init.cls ≠ "java/lang/invoke/VarHandle" ∧ (parseMethodDescriptor yX25_init.desc).map (fun d => d.parameters.length) = some 1 := by decide +kernel
theorem dd_X2_holds : yX2_holds.cls ≠ "java/lang/invoke/MethodHandle" ∧ yX2_holds.cls ≠ "java/lang/invoke/VarHandle" ∧ (parseMethodDescriptor yX2_holds.desc).map (fun d => d.parameters.length) = some 3 := by decide +kernel
theorem dd_X4_holds : yX4_holds.cls ≠ "java/lang/invoke/MethodHandle" ∧ yX4_holds.cls ≠ "java/lang/invoke/VarHandle" ∧ (parseMethodDescriptor yX4_holds.desc).map (fun d => d.parameters.length) = some 1 := by decide +kernel
theorem dd_X4_init : yX4_init.cls ≠ "java/lang/invoke/MethodHandle" ∧ yX4_init.cls ≠ "java/lang/invoke/VarHandle" ∧ (parseMethodDescriptor yX4_init.desc).map (fun d => d.parameters.length) = some 2 := by decide +kernel
theorem dd_X8_size : yX8_size.cls ≠ "java/lang/invoke/MethodHandle" ∧ yX8_size.cls ≠ "java/lang/invoke/VarHandle" ∧ (parseMethodDescriptor yX8_size.desc).map (fun d => d.parameters.length) = some 0 := by decide +kernel
abbrev rm_J0_abs : Room := { frames := 1, cells := 0, slots := 0, locals := 64 }
def wp_J0_abs_L12 (D : zD) (post : Int64 → zM → Prop) (y0 : Int64) (M : zM) : Prop :=
    post y0 M
set_option maxHeartbeats 4000000 in
set_option maxRecDepth 100000 in
theorem wk_J0_abs_L12 {p : Program} {l : Launch} {e : Env} {s : State} {m : MethodId} {args : Array Value} {below : List Frame} {meth : Method} {c : Code} {D : zD} {post : Int64 → zM → Prop} (hG : zGx p l s m args meth c cJ0_abs 2 "java/lang/Math" D (some .long) "abs" []) : ∀ {H : Heap} {locs : List Loc} {cells slots : Nat} {ls : Array Slot} (y0 : Int64) (M : zM), cells ≤ 0 → slots ≤ 0 → zS D M H locs → lv_has ls 2 [] → wp_J0_abs_L12 D post y0 M → W p l e rm_J0_abs s m args below meth c H locs cells slots (vx_MQ below (zQ D zL post) (zX D (fun _ _ => False)) args s 0 0 (zA D)) (F0 m 12 ls [.long y0]) := by
  have hC := hG.1
  have hx := hC.x
  have hb := hC.b
  have hown := hC.o
  have hts := hC.ts
  have hlt := hG.2.2.2.2.2
  intro H locs cells slots ls y0 M hk hn hZ hl hw
  exact z_lret hG hZ hk hn hw dJ0_abs_12
def wp_J0_abs (D : zD) (post : Int64 → zM → Prop) (a0 : Int64) (M : zM) : Prop :=
    ((0 ≤ (lg_cmp a0 (0 : Int64)) → wp_J0_abs_L12 D post a0 M) ∧ (¬ 0 ≤ (lg_cmp a0 (0 : Int64)) → wp_J0_abs_L12 D post (-a0) M))
set_option maxHeartbeats 4000000 in
set_option maxRecDepth 100000 in
theorem w_J0_abs {l : Launch} {D : zD} {post : Int64 → zM → Prop} (hlt : l.stackTraces = false) {a0 : Int64} {M : zM} (hw : wp_J0_abs D post a0 M) : zMet l D yJ0_abs (ws_ yJ0_abs cJ0_abs 2 (some .long)) rm_J0_abs 0 0 [.long a0] M zL post (fun _ _ => False) := by
  unfold wp_J0_abs at hw
  have hlv : lv_args 0 [.long a0] = [(0, .long a0)] := (zargs2 rfl rfl)
  refine z_ofWF hlt (by decide +kernel) (Nat.le_trans (zsl2 rfl (Nat.le_refl 0 : (lg_sl []).length ≤ 0)) (Nat.le_of_ble_eq_true rfl)) hlv ?_
  intro p e s m args below meth c ls hG hZ hl
  have hC := hG.1
  have hx := hC.x
  have hb := hC.b
  have hown := hC.o
  have hts := hC.ts
  have hlt := hG.2.2.2.2.2
  obtain ⟨cells, hce⟩ : ∃ z : Nat, z = 0 := ⟨0, rfl⟩
  obtain ⟨slots, hsl⟩ : ∃ z : Nat, z = 0 := ⟨0, rfl⟩
  refine W.cs (cells' := cells) (slots' := slots) hce.symm hsl.symm ?_
  have hk : cells ≤ 0 := Nat.le_of_eq hce
  have hn : slots ≤ 0 := Nat.le_of_eq hsl
  clear hce hsl
  refine lv_lload_n hx hb dJ0_abs_0 rfl (lv_at hl 0 rfl) ?_
  refine lv_lconst (v := 0) hx hb dJ0_abs_1 (by decide) ?_
  refine W.lcmp hx hb dJ0_abs_2 ?_
  refine lv_if_ge (tgt := 11) hx hb dJ0_abs_3 (by decide) (fun c2 => ?_) (fun c2 => ?_)
  · replace hw := hw.1 c2
    refine lv_lload_n hx hb dJ0_abs_11 rfl (lv_at hl 0 rfl) ?_
    exact wk_J0_abs_L12 hG _ _ hk hn hZ (lv_sub hl [] rfl) hw
  · replace hw := hw.2 c2
    refine lv_lload_n hx hb dJ0_abs_6 rfl (lv_at hl 0 rfl) ?_
    refine lv_lneg hx hb dJ0_abs_7 ?_
    refine lv_goto (tgt := 12) hx hb dJ0_abs_8 (by decide) ?_
    exact wk_J0_abs_L12 hG _ _ hk hn hZ (lv_sub hl [] rfl) hw
abbrev rm_J8_init_3 : Room := { frames := 1, cells := 0, slots := 0, locals := 64 }
def wp_J8_init_3 (D : zD) (post : Unit → zM → Prop) (o : Nat) (a0 : Option Nat) (M : zM) : Prop :=
    (zp D M o 13 0 (.ref o) fun M => (∀ r1 : Option Nat, (zp D M o 13 1 (va_rf r1) fun M => (∀ r2 : Option Nat, (zp D M o 13 2 (va_rf r2) fun M => False)))))
set_option maxHeartbeats 4000000 in
set_option maxRecDepth 100000 in
theorem w_J8_init_3 {l : Launch} {D : zD} {post : Unit → zM → Prop} (hlt : l.stackTraces = false) {o : Nat} {a0 : Option Nat} {M : zM} (hw : wp_J8_init_3 D post o a0 M) : zMet l D yJ8_init_3 (ws_ yJ8_init_3 cJ8_init_3 2 (none)) rm_J8_init_3 0 0 [.ref o, va_rf a0] M zU post (fun _ _ => False) := by
  unfold wp_J8_init_3 at hw
  have hlv : lv_args 0 [.ref o, va_rf a0] = [(0, .ref o), (1, va_rf a0)] := (zargs1 rfl (zargs1 (zcat _) rfl))
  refine z_ofW hlt (by decide) (Nat.le_trans (zsl1 rfl (zsl1 (zcat _) (Nat.le_refl 0 : (lg_sl []).length ≤ 0))) (Nat.le_of_ble_eq_true rfl)) hlv ?_
  intro p e s m args below meth c ls hG hZ hl
  have hC := hG.1
  have hx := hC.x
  have hb := hC.b
  have hown := hC.o
  have hts := hC.ts
  have hlt := hG.2.2.2.2.2
  obtain ⟨cells, hce⟩ : ∃ z : Nat, z = 0 := ⟨0, rfl⟩
  obtain ⟨slots, hsl⟩ : ∃ z : Nat, z = 0 := ⟨0, rfl⟩
  refine W.cs (cells' := cells) (slots' := slots) hce.symm hsl.symm ?_
  have hk : cells ≤ 0 := Nat.le_of_eq hce
  have hn : slots ≤ 0 := Nat.le_of_eq hsl
  clear hce hsl
  refine lv_aload_n hx hb dJ8_init_3_0 rfl (lv_at hl 0 rfl) ?_
  refine W.objInit hx hb hown (hts _ q673) (hts _ q124) (hts _ q125) rfl (by rw [hC.ml]; exact hl.1) rfl dJ8_init_3_1 (Nat.le_of_ble_eq_true rfl) (Nat.le_of_ble_eq_true rfl) ?_
  refine W.eq (g2 := F0 m 4 ls []) rfl ?_
  refine lv_aload_n hx hb dJ8_init_3_4 rfl (lv_at hl 0 rfl) ?_
  refine lv_aload_n hx hb dJ8_init_3_5 rfl (lv_at hl 0 rfl) ?_
  obtain ⟨fs0, hM0, hb0, hk0, hw⟩ := hw
  refine z_put hC hZ hM0 hb0 zc13 0 (by decide) q705 (fun _ h9 => h9) (by decide) rfl rfl hk0 dJ8_init_3_6 (fun H locs hZ => ?_)
  generalize zu M _ _ = M at hw hZ
  refine lv_aload_n hx hb dJ8_init_3_9 rfl (lv_at hl 0 rfl) ?_
  refine z_getsq hC hZ hC.K.2.2.2.2.2.2.1.2.1.1 q674 (fun _ h9 => h9) dJ8_init_3_10 (fun r6 => ?_)
  replace hw := hw r6
  obtain ⟨fs0, hM0, hb0, hk0, hw⟩ := hw
  refine z_put hC hZ hM0 hb0 zc13 1 (by decide) q706 (fun _ h9 => h9) (by decide) zrf_narA zrf_fitA hk0 dJ8_init_3_13 (fun H locs hZ => ?_)
  generalize zu M _ _ = M at hw hZ
  refine lv_aload_n hx hb dJ8_init_3_16 rfl (lv_at hl 0 rfl) ?_
  refine z_getsq hC hZ hC.K.2.2.2.2.2.2.1.2.2.1 q676 (fun _ h9 => h9) dJ8_init_3_17 (fun r7 => ?_)
  replace hw := hw r7
  obtain ⟨fs0, hM0, hb0, hk0, hw⟩ := hw
  refine z_put hC hZ hM0 hb0 zc13 2 (by decide) q707 (fun _ h9 => h9) (by decide) zrf_nar zrf_fit hk0 dJ8_init_3_20 (fun H locs hZ => ?_)
  generalize zu M _ _ = M at hw hZ
  refine lv_aload_n hx hb dJ8_init_3_23 rfl (lv_at hl 0 rfl) ?_
  exact hw.elim
abbrev rm_J9_init_2 : Room := { frames := 2, cells := 0, slots := 0, locals := 85 }
def wp_J9_init_2 (D : zD) (post : Unit → zM → Prop) (o : Nat) (a0 : Option Nat) (M : zM) : Prop :=
    (wp_J8_init_3 D (fun _ M => post () M) o a0 M)
set_option maxHeartbeats 4000000 in
set_option maxRecDepth 100000 in
theorem w_J9_init_2 {l : Launch} {D : zD} {post : Unit → zM → Prop} (hlt : l.stackTraces = false) {o : Nat} {a0 : Option Nat} {M : zM} (hw : wp_J9_init_2 D post o a0 M) : zMet l D yJ9_init_2 (ws_ yJ9_init_2 cJ9_init_2 2 (none)) rm_J9_init_2 0 0 [.ref o, va_rf a0] M zU post (fun _ _ => False) := by
  unfold wp_J9_init_2 at hw
  have hlv : lv_args 0 [.ref o, va_rf a0] = [(0, .ref o), (1, va_rf a0)] := (zargs1 rfl (zargs1 (zcat _) rfl))
  refine z_ofW hlt (by decide) (Nat.le_trans (zsl1 rfl (zsl1 (zcat _) (Nat.le_refl 0 : (lg_sl []).length ≤ 0))) (Nat.le_of_ble_eq_true rfl)) hlv ?_
  intro p e s m args below meth c ls hG hZ hl
  have hC := hG.1
  have hx := hC.x
  have hb := hC.b
  have hown := hC.o
  have hts := hC.ts
  have hlt := hG.2.2.2.2.2
  obtain ⟨cells, hce⟩ : ∃ z : Nat, z = 0 := ⟨0, rfl⟩
  obtain ⟨slots, hsl⟩ : ∃ z : Nat, z = 0 := ⟨0, rfl⟩
  refine W.cs (cells' := cells) (slots' := slots) hce.symm hsl.symm ?_
  have hk : cells ≤ 0 := Nat.le_of_eq hce
  have hn : slots ≤ 0 := Nat.le_of_eq hsl
  clear hce hsl
  refine lv_aload_n hx hb dJ9_init_2_0 rfl (lv_at hl 0 rfl) ?_
  refine z_aload_n hC dJ9_init_2_1 rfl (lv_at hl 1 rfl) ?_
  refine z_callU hZ (vx_runI (As := [va_rf a0]) (rest := []) hC.fix (w_J8_init_3 hlt hw) (cwI 1 hts (lw_meth q1301) rfl rfl rfl (hts _ q91) (hts _ q1299) (hts _ q1300) rfl dd_J8_init_3 ⟨Nat.le_of_ble_eq_true rfl, Nat.le_of_ble_eq_true rfl⟩) (z_preS hC hZ) rfl rfl hl.1 rfl (lv_room (Nat.zero_le _)) dJ9_init_2_2 ⟨hk, hn⟩) (fun r4 M H locs hw1 hZ => ?_) (fun q M H locs ci fs E T9 N9 hw hZ hc1 hM1 hb1 => False.elim hw)
  replace hw := hw1
  clear hw1
  refine W.cs (cells' := cells) (slots' := slots) rfl rfl ?_
  exact z_vret hG hZ hk hn hw dJ9_init_2_5
abbrev rm_J10_init_2 : Room := { frames := 3, cells := 0, slots := 0, locals := 106 }
def wp_J10_init_2 (D : zD) (post : Unit → zM → Prop) (o : Nat) (a0 : Option Nat) (M : zM) : Prop :=
    (wp_J9_init_2 D (fun _ M => post () M) o a0 M)
set_option maxHeartbeats 4000000 in
set_option maxRecDepth 100000 in
theorem w_J10_init_2 {l : Launch} {D : zD} {post : Unit → zM → Prop} (hlt : l.stackTraces = false) {o : Nat} {a0 : Option Nat} {M : zM} (hw : wp_J10_init_2 D post o a0 M) : zMet l D yJ10_init_2 (ws_ yJ10_init_2 cJ10_init_2 2 (none)) rm_J10_init_2 0 0 [.ref o, va_rf a0] M zU post (fun _ _ => False) := by
  unfold wp_J10_init_2 at hw
  have hlv : lv_args 0 [.ref o, va_rf a0] = [(0, .ref o), (1, va_rf a0)] := (zargs1 rfl (zargs1 (zcat _) rfl))
  refine z_ofW hlt (by decide) (Nat.le_trans (zsl1 rfl (zsl1 (zcat _) (Nat.le_refl 0 : (lg_sl []).length ≤ 0))) (Nat.le_of_ble_eq_true rfl)) hlv ?_
  intro p e s m args below meth c ls hG hZ hl
  have hC := hG.1
  have hx := hC.x
  have hb := hC.b
  have hown := hC.o
  have hts := hC.ts
  have hlt := hG.2.2.2.2.2
  obtain ⟨cells, hce⟩ : ∃ z : Nat, z = 0 := ⟨0, rfl⟩
  obtain ⟨slots, hsl⟩ : ∃ z : Nat, z = 0 := ⟨0, rfl⟩
  refine W.cs (cells' := cells) (slots' := slots) hce.symm hsl.symm ?_
  have hk : cells ≤ 0 := Nat.le_of_eq hce
  have hn : slots ≤ 0 := Nat.le_of_eq hsl
  clear hce hsl
  refine lv_aload_n hx hb dJ10_init_2_0 rfl (lv_at hl 0 rfl) ?_
  refine z_aload_n hC dJ10_init_2_1 rfl (lv_at hl 1 rfl) ?_
  refine z_callU hZ (vx_runI (As := [va_rf a0]) (rest := []) hC.fix (w_J9_init_2 hlt hw) (cwI 1 hts (lw_meth q1298) rfl rfl rfl (hts _ q92) (hts _ q1296) (hts _ q1297) rfl dd_J9_init_2 ⟨Nat.le_of_ble_eq_true rfl, Nat.le_of_ble_eq_true rfl⟩) (z_preS hC hZ) rfl rfl hl.1 rfl (lv_room (Nat.zero_le _)) dJ10_init_2_2 ⟨hk, hn⟩) (fun r4 M H locs hw1 hZ => ?_) (fun q M H locs ci fs E T9 N9 hw hZ hc1 hM1 hb1 => False.elim hw)
  replace hw := hw1
  clear hw1
  refine W.cs (cells' := cells) (slots' := slots) rfl rfl ?_
  exact z_vret hG hZ hk hn hw dJ10_init_2_5
abbrev rm_J16_init : Room := { frames := 4, cells := 0, slots := 0, locals := 127 }
def wp_J16_init (D : zD) (post : Unit → zM → Prop) (o : Nat) (a0 : Option Nat) (M : zM) : Prop :=
    (wp_J10_init_2 D (fun _ M => post () M) o a0 M)
set_option maxHeartbeats 4000000 in
set_option maxRecDepth 100000 in
theorem w_J16_init {l : Launch} {D : zD} {post : Unit → zM → Prop} (hlt : l.stackTraces = false) {o : Nat} {a0 : Option Nat} {M : zM} (hw : wp_J16_init D post o a0 M) : zMet l D yJ16_init (ws_ yJ16_init cJ16_init 2 (none)) rm_J16_init 0 0 [.ref o, va_rf a0] M zU post (fun _ _ => False) := by
  unfold wp_J16_init at hw
  have hlv : lv_args 0 [.ref o, va_rf a0] = [(0, .ref o), (1, va_rf a0)] := (zargs1 rfl (zargs1 (zcat _) rfl))
  refine z_ofW hlt (by decide) (Nat.le_trans (zsl1 rfl (zsl1 (zcat _) (Nat.le_refl 0 : (lg_sl []).length ≤ 0))) (Nat.le_of_ble_eq_true rfl)) hlv ?_
  intro p e s m args below meth c ls hG hZ hl
  have hC := hG.1
  have hx := hC.x
  have hb := hC.b
  have hown := hC.o
  have hts := hC.ts
  have hlt := hG.2.2.2.2.2
  obtain ⟨cells, hce⟩ : ∃ z : Nat, z = 0 := ⟨0, rfl⟩
  obtain ⟨slots, hsl⟩ : ∃ z : Nat, z = 0 := ⟨0, rfl⟩
  refine W.cs (cells' := cells) (slots' := slots) hce.symm hsl.symm ?_
  have hk : cells ≤ 0 := Nat.le_of_eq hce
  have hn : slots ≤ 0 := Nat.le_of_eq hsl
  clear hce hsl
  refine lv_aload_n hx hb dJ16_init_0 rfl (lv_at hl 0 rfl) ?_
  refine z_aload_n hC dJ16_init_1 rfl (lv_at hl 1 rfl) ?_
  refine z_callU hZ (vx_runI (As := [va_rf a0]) (rest := []) hC.fix (w_J10_init_2 hlt hw) (cwI 1 hts (lw_meth q1295) rfl rfl rfl (hts _ q93) (hts _ q1293) (hts _ q1294) rfl dd_J10_init_2 ⟨Nat.le_of_ble_eq_true rfl, Nat.le_of_ble_eq_true rfl⟩) (z_preS hC hZ) rfl rfl hl.1 rfl (lv_room (Nat.zero_le _)) dJ16_init_2 ⟨hk, hn⟩) (fun r4 M H locs hw1 hZ => ?_) (fun q M H locs ci fs E T9 N9 hw hZ hc1 hM1 hb1 => False.elim hw)
  replace hw := hw1
  clear hw1
  refine W.cs (cells' := cells) (slots' := slots) rfl rfl ?_
  exact z_vret hG hZ hk hn hw dJ16_init_5
abbrev rm_J0_addExact (K N : Nat) : Room := { frames := 12, cells := K, slots := N, locals := 200 }
def wp_J0_addExact (D : zD) (post : Int32 → zM → Prop) (xp : Nat → zM → Prop) (k : Nat) (n : Nat) (a0 : Int32) (a1 : Int32) (M : zM) : Prop :=
    ((0 ≤ ((a0 ^^^ (a0 + a1)) &&& (a1 ^^^ (a0 + a1))) → post (a0 + a1) M) ∧ (¬ 0 ≤ ((a0 ^^^ (a0 + a1)) &&& (a1 ^^^ (a0 + a1))) → (znewX D M 28 k n 1 6 fun b1 M => (zth D M b1 ∧ xp b1 M))))
set_option maxHeartbeats 4000000 in
set_option maxRecDepth 100000 in
theorem w_J0_addExact {l : Launch} {D : zD} {post : Int32 → zM → Prop} {xp : Nat → zM → Prop} (hlt : l.stackTraces = false) {k : Nat} {n : Nat} {a0 : Int32} {a1 : Int32} {M : zM} (hw : wp_J0_addExact D post xp k n a0 a1 M) : zMet l D yJ0_addExact (ws_ yJ0_addExact cJ0_addExact 3 (some .int)) (rm_J0_addExact k n) k n [.int a0, .int a1] M zI post xp := by
  unfold wp_J0_addExact at hw
  have hlv : lv_args 0 [.int a0, .int a1] = [(0, .int a0), (1, .int a1)] := (zargs1 rfl (zargs1 rfl rfl))
  refine z_ofWF hlt (by decide +kernel) (Nat.le_trans (zsl1 rfl (zsl1 rfl (Nat.le_refl 0 : (lg_sl []).length ≤ 0))) (Nat.le_of_ble_eq_true rfl)) hlv ?_
  intro p e s m args below meth c ls hG hZ hl
  have hC := hG.1
  have hx := hC.x
  have hb := hC.b
  have hown := hC.o
  have hts := hC.ts
  have hlt := hG.2.2.2.2.2
  obtain ⟨cells, hce⟩ : ∃ z : Nat, z = 0 := ⟨0, rfl⟩
  obtain ⟨slots, hsl⟩ : ∃ z : Nat, z = 0 := ⟨0, rfl⟩
  refine W.cs (cells' := cells) (slots' := slots) hce.symm hsl.symm ?_
  have hk : cells + k ≤ k := by omega
  have hn : slots + n ≤ n := by omega
  clear hce hsl
  refine lv_iload_n hx hb dJ0_addExact_0 rfl (lv_at hl 0 rfl) ?_
  refine lv_iload_n hx hb dJ0_addExact_1 rfl (lv_at hl 1 rfl) ?_
  refine lv_iadd hx hb dJ0_addExact_2 ?_
  refine lv_istore_n (i := 2) (lv' := [(2, .int (a0 + a1)), (0, .int a0), (1, .int a1)]) hx hb dJ0_addExact_3 rfl hl (by decide) rfl (fun ls hl1 => ?_)
  replace hl := hl1
  clear hl1
  refine lv_iload_n hx hb dJ0_addExact_4 rfl (lv_at hl 1 rfl) ?_
  refine lv_iload_n hx hb dJ0_addExact_5 rfl (lv_at hl 0 rfl) ?_
  refine lv_ixor hx hb dJ0_addExact_6 ?_
  refine lv_iload_n hx hb dJ0_addExact_7 rfl (lv_at hl 2 rfl) ?_
  refine lv_iload_n hx hb dJ0_addExact_8 rfl (lv_at hl 0 rfl) ?_
  refine lv_ixor hx hb dJ0_addExact_9 ?_
  refine lv_iand hx hb dJ0_addExact_10 ?_
  refine lv_if_ge (tgt := 24) hx hb dJ0_addExact_11 (by decide) (fun c4 => ?_) (fun c4 => ?_)
  · replace hw := hw.1 c4
    refine lv_iload_n hx hb dJ0_addExact_24 rfl (lv_at hl 0 rfl) ?_
    exact z_iret hG hZ (by omega) (by omega) hw dJ0_addExact_25
  · replace hw := hw.2 c4
    obtain ⟨hk1, hn1, hw⟩ := hw
    refine z_makeA (i := 6) hG hZ hl.1 rfl q1344 q1346 dJ0_addExact_14 dJ0_addExact_17 dJ0_addExact_18 dJ0_addExact_20 (Nat.le_trans zrm0 (Nat.le_of_ble_eq_true rfl)) (Nat.le_of_ble_eq_true rfl) (Nat.le_of_ble_eq_true rfl) (show cells + 1 ≤ k by omega) (show slots + 6 ≤ n by omega) (fun b3 H hq0 hq1 hZ => ?_)
    replace hw := hw b3 hq0 hq1
    generalize zu M _ _ = M at hw hZ
    have hk : cells + 1 + (k - 1) ≤ k := by omega
    have hn : slots + 6 + (n - 6) ≤ n := by omega
    generalize cells + 1 = cells at hk ⊢
    generalize slots + 6 = slots at hn ⊢
    clear hk1 hn1
    obtain ⟨⟨ci0, fs0, hci0, hM0, hb0⟩, hw⟩ := hw
    obtain ⟨E0, T0, N0, hc0⟩ := z_cl hci0
    refine vx_athrow hx hb dJ0_addExact_23 ?_
    exact z_out hG hZ hM0 hb0 hc0 za0 (by omega) (by omega) hw
abbrev rm_J0_max : Room := { frames := 1, cells := 0, slots := 0, locals := 64 }
def wp_J0_max_L10 (D : zD) (post : Int32 → zM → Prop) (y0 : Int32) (M : zM) : Prop :=
    post y0 M
set_option maxHeartbeats 4000000 in
set_option maxRecDepth 100000 in
theorem wk_J0_max_L10 {p : Program} {l : Launch} {e : Env} {s : State} {m : MethodId} {args : Array Value} {below : List Frame} {meth : Method} {c : Code} {D : zD} {post : Int32 → zM → Prop} (hG : zGx p l s m args meth c cJ0_max 2 "java/lang/Math" D (some .int) "max" []) : ∀ {H : Heap} {locs : List Loc} {cells slots : Nat} {ls : Array Slot} (y0 : Int32) (M : zM), cells ≤ 0 → slots ≤ 0 → zS D M H locs → lv_has ls 2 [] → wp_J0_max_L10 D post y0 M → W p l e rm_J0_max s m args below meth c H locs cells slots (vx_MQ below (zQ D zI post) (zX D (fun _ _ => False)) args s 0 0 (zA D)) (F0 m 10 ls [.int y0]) := by
  have hC := hG.1
  have hx := hC.x
  have hb := hC.b
  have hown := hC.o
  have hts := hC.ts
  have hlt := hG.2.2.2.2.2
  intro H locs cells slots ls y0 M hk hn hZ hl hw
  exact z_iret hG hZ hk hn hw dJ0_max_10
def wp_J0_max (D : zD) (post : Int32 → zM → Prop) (a0 : Int32) (a1 : Int32) (M : zM) : Prop :=
    ((a0 < a1 → wp_J0_max_L10 D post a1 M) ∧ (¬ a0 < a1 → wp_J0_max_L10 D post a0 M))
set_option maxHeartbeats 4000000 in
set_option maxRecDepth 100000 in
theorem w_J0_max {l : Launch} {D : zD} {post : Int32 → zM → Prop} (hlt : l.stackTraces = false) {a0 : Int32} {a1 : Int32} {M : zM} (hw : wp_J0_max D post a0 a1 M) : zMet l D yJ0_max (ws_ yJ0_max cJ0_max 2 (some .int)) rm_J0_max 0 0 [.int a0, .int a1] M zI post (fun _ _ => False) := by
  unfold wp_J0_max at hw
  have hlv : lv_args 0 [.int a0, .int a1] = [(0, .int a0), (1, .int a1)] := (zargs1 rfl (zargs1 rfl rfl))
  refine z_ofWF hlt (by decide +kernel) (Nat.le_trans (zsl1 rfl (zsl1 rfl (Nat.le_refl 0 : (lg_sl []).length ≤ 0))) (Nat.le_of_ble_eq_true rfl)) hlv ?_
  intro p e s m args below meth c ls hG hZ hl
  have hC := hG.1
  have hx := hC.x
  have hb := hC.b
  have hown := hC.o
  have hts := hC.ts
  have hlt := hG.2.2.2.2.2
  obtain ⟨cells, hce⟩ : ∃ z : Nat, z = 0 := ⟨0, rfl⟩
  obtain ⟨slots, hsl⟩ : ∃ z : Nat, z = 0 := ⟨0, rfl⟩
  refine W.cs (cells' := cells) (slots' := slots) hce.symm hsl.symm ?_
  have hk : cells ≤ 0 := Nat.le_of_eq hce
  have hn : slots ≤ 0 := Nat.le_of_eq hsl
  clear hce hsl
  refine lv_iload_n hx hb dJ0_max_0 rfl (lv_at hl 0 rfl) ?_
  refine lv_iload_n hx hb dJ0_max_1 rfl (lv_at hl 1 rfl) ?_
  refine lv_icmp_lt (tgt := 9) hx hb dJ0_max_2 (by decide) (fun c2 => ?_) (fun c2 => ?_)
  · replace hw := hw.1 c2
    refine lv_iload_n hx hb dJ0_max_9 rfl (lv_at hl 1 rfl) ?_
    exact wk_J0_max_L10 hG _ _ hk hn hZ (lv_sub hl [] rfl) hw
  · replace hw := hw.2 c2
    refine lv_iload_n hx hb dJ0_max_5 rfl (lv_at hl 0 rfl) ?_
    refine lv_goto (tgt := 10) hx hb dJ0_max_6 (by decide) ?_
    exact wk_J0_max_L10 hG _ _ hk hn hZ (lv_sub hl [] rfl) hw
abbrev rm_J0_min : Room := { frames := 1, cells := 0, slots := 0, locals := 64 }
def wp_J0_min_L10 (D : zD) (post : Int32 → zM → Prop) (y0 : Int32) (M : zM) : Prop :=
    post y0 M
set_option maxHeartbeats 4000000 in
set_option maxRecDepth 100000 in
theorem wk_J0_min_L10 {p : Program} {l : Launch} {e : Env} {s : State} {m : MethodId} {args : Array Value} {below : List Frame} {meth : Method} {c : Code} {D : zD} {post : Int32 → zM → Prop} (hG : zGx p l s m args meth c cJ0_min 2 "java/lang/Math" D (some .int) "min" []) : ∀ {H : Heap} {locs : List Loc} {cells slots : Nat} {ls : Array Slot} (y0 : Int32) (M : zM), cells ≤ 0 → slots ≤ 0 → zS D M H locs → lv_has ls 2 [] → wp_J0_min_L10 D post y0 M → W p l e rm_J0_min s m args below meth c H locs cells slots (vx_MQ below (zQ D zI post) (zX D (fun _ _ => False)) args s 0 0 (zA D)) (F0 m 10 ls [.int y0]) := by
  have hC := hG.1
  have hx := hC.x
  have hb := hC.b
  have hown := hC.o
  have hts := hC.ts
  have hlt := hG.2.2.2.2.2
  intro H locs cells slots ls y0 M hk hn hZ hl hw
  exact z_iret hG hZ hk hn hw dJ0_min_10
def wp_J0_min (D : zD) (post : Int32 → zM → Prop) (a0 : Int32) (a1 : Int32) (M : zM) : Prop :=
    ((a1 < a0 → wp_J0_min_L10 D post a1 M) ∧ (¬ a1 < a0 → wp_J0_min_L10 D post a0 M))
set_option maxHeartbeats 4000000 in
set_option maxRecDepth 100000 in
theorem w_J0_min {l : Launch} {D : zD} {post : Int32 → zM → Prop} (hlt : l.stackTraces = false) {a0 : Int32} {a1 : Int32} {M : zM} (hw : wp_J0_min D post a0 a1 M) : zMet l D yJ0_min (ws_ yJ0_min cJ0_min 2 (some .int)) rm_J0_min 0 0 [.int a0, .int a1] M zI post (fun _ _ => False) := by
  unfold wp_J0_min at hw
  have hlv : lv_args 0 [.int a0, .int a1] = [(0, .int a0), (1, .int a1)] := (zargs1 rfl (zargs1 rfl rfl))
  refine z_ofWF hlt (by decide +kernel) (Nat.le_trans (zsl1 rfl (zsl1 rfl (Nat.le_refl 0 : (lg_sl []).length ≤ 0))) (Nat.le_of_ble_eq_true rfl)) hlv ?_
  intro p e s m args below meth c ls hG hZ hl
  have hC := hG.1
  have hx := hC.x
  have hb := hC.b
  have hown := hC.o
  have hts := hC.ts
  have hlt := hG.2.2.2.2.2
  obtain ⟨cells, hce⟩ : ∃ z : Nat, z = 0 := ⟨0, rfl⟩
  obtain ⟨slots, hsl⟩ : ∃ z : Nat, z = 0 := ⟨0, rfl⟩
  refine W.cs (cells' := cells) (slots' := slots) hce.symm hsl.symm ?_
  have hk : cells ≤ 0 := Nat.le_of_eq hce
  have hn : slots ≤ 0 := Nat.le_of_eq hsl
  clear hce hsl
  refine lv_iload_n hx hb dJ0_min_0 rfl (lv_at hl 0 rfl) ?_
  refine lv_iload_n hx hb dJ0_min_1 rfl (lv_at hl 1 rfl) ?_
  refine lv_icmp_gt (tgt := 9) hx hb dJ0_min_2 (by decide) (fun c2 => ?_) (fun c2 => ?_)
  · replace hw := hw.1 c2
    refine lv_iload_n hx hb dJ0_min_9 rfl (lv_at hl 1 rfl) ?_
    exact wk_J0_min_L10 hG _ _ hk hn hZ (lv_sub hl [] rfl) hw
  · replace hw := hw.2 c2
    refine lv_iload_n hx hb dJ0_min_5 rfl (lv_at hl 0 rfl) ?_
    refine lv_goto (tgt := 10) hx hb dJ0_min_6 (by decide) ?_
    exact wk_J0_min_L10 hG _ _ hk hn hZ (lv_sub hl [] rfl) hw
abbrev rm_J0_multiplyExact (K N : Nat) : Room := { frames := 12, cells := K, slots := N, locals := 200 }
def wp_J0_multiplyExact_L71 (D : zD) (post : Int64 → zM → Prop) (xp : Nat → zM → Prop) (k : Nat) (n : Nat) (x4 : Int64) (M : zM) : Prop :=
    post x4 M
set_option maxHeartbeats 4000000 in
set_option maxRecDepth 100000 in
theorem wk_J0_multiplyExact_L71 {p : Program} {l : Launch} {e : Env} {s : State} {m : MethodId} {args : Array Value} {below : List Frame} {meth : Method} {c : Code} {D : zD} {post : Int64 → zM → Prop} {xp : Nat → zM → Prop} {K N : Nat} (hG : zGx p l s m args meth c cJ0_multiplyExact 10 "java/lang/Math" D (some .long) "multiplyExact" []) : ∀ {H : Heap} {locs : List Loc} {cells slots : Nat} {ls : Array Slot} (k : Nat) (n : Nat) (x4 : Int64) (M : zM), cells + k ≤ K → slots + n ≤ N → zS D M H locs → lv_has ls 10 [(4, .long x4)] → wp_J0_multiplyExact_L71 D post xp k n x4 M → W p l e (rm_J0_multiplyExact K N) s m args below meth c H locs cells slots (vx_MQ below (zQ D zL post) (zX D xp) args s K N (zA D)) (F0 m 71 ls []) := by
  have hC := hG.1
  have hx := hC.x
  have hb := hC.b
  have hown := hC.o
  have hts := hC.ts
  have hlt := hG.2.2.2.2.2
  intro H locs cells slots ls k n x4 M hk hn hZ hl hw
  refine lv_lload hx hb dJ0_multiplyExact_71 (lv_at hl 0 rfl) ?_
  exact z_lret hG hZ (by omega) (by omega) hw dJ0_multiplyExact_73
def wp_J0_multiplyExact_L61 (D : zD) (post : Int64 → zM → Prop) (xp : Nat → zM → Prop) (k : Nat) (n : Nat) (M : zM) : Prop :=
    (znewX D M 28 k n 1 6 fun b1 M => (zth D M b1 ∧ xp b1 M))
set_option maxHeartbeats 4000000 in
set_option maxRecDepth 100000 in
theorem wk_J0_multiplyExact_L61 {p : Program} {l : Launch} {e : Env} {s : State} {m : MethodId} {args : Array Value} {below : List Frame} {meth : Method} {c : Code} {D : zD} {post : Int64 → zM → Prop} {xp : Nat → zM → Prop} {K N : Nat} (hG : zGx p l s m args meth c cJ0_multiplyExact 10 "java/lang/Math" D (some .long) "multiplyExact" []) : ∀ {H : Heap} {locs : List Loc} {cells slots : Nat} {ls : Array Slot} (k : Nat) (n : Nat) (M : zM), cells + k ≤ K → slots + n ≤ N → zS D M H locs → lv_has ls 10 [] → wp_J0_multiplyExact_L61 D post xp k n M → W p l e (rm_J0_multiplyExact K N) s m args below meth c H locs cells slots (vx_MQ below (zQ D zL post) (zX D xp) args s K N (zA D)) (F0 m 61 ls []) := by
  have hC := hG.1
  have hx := hC.x
  have hb := hC.b
  have hown := hC.o
  have hts := hC.ts
  have hlt := hG.2.2.2.2.2
  intro H locs cells slots ls k n M hk hn hZ hl hw
  obtain ⟨hk1, hn1, hw⟩ := hw
  refine z_makeA (i := 5) hG hZ hl.1 rfl q1344 q1346 dJ0_multiplyExact_61 dJ0_multiplyExact_64 dJ0_multiplyExact_65 dJ0_multiplyExact_67 (Nat.le_trans zrm0 (Nat.le_of_ble_eq_true rfl)) (Nat.le_of_ble_eq_true rfl) (Nat.le_of_ble_eq_true rfl) (show cells + 1 ≤ K by omega) (show slots + 6 ≤ N by omega) (fun b2 H hq0 hq1 hZ => ?_)
  replace hw := hw b2 hq0 hq1
  generalize zu M _ _ = M at hw hZ
  have hk : cells + 1 + (k - 1) ≤ K := by omega
  have hn : slots + 6 + (n - 6) ≤ N := by omega
  generalize cells + 1 = cells at hk ⊢
  generalize slots + 6 = slots at hn ⊢
  clear hk1 hn1
  obtain ⟨⟨ci0, fs0, hci0, hM0, hb0⟩, hw⟩ := hw
  obtain ⟨E0, T0, N0, hc0⟩ := z_cl hci0
  refine vx_athrow hx hb dJ0_multiplyExact_70 ?_
  exact z_out hG hZ hM0 hb0 hc0 za0 (by omega) (by omega) hw
def wp_J0_multiplyExact_L45 (D : zD) (post : Int64 → zM → Prop) (xp : Nat → zM → Prop) (k : Nat) (n : Nat) (x0 : Int64) (x2 : Int64) (x4 : Int64) (M : zM) : Prop :=
    ((¬ (lg_cmp x0 (-9223372036854775808 : Int64)) = 0 → wp_J0_multiplyExact_L71 D post xp k n x4 M) ∧ ((lg_cmp x0 (-9223372036854775808 : Int64)) = 0 → ((¬ (lg_cmp x2 (-1 : Int64)) = 0 → wp_J0_multiplyExact_L71 D post xp k n x4 M) ∧ ((lg_cmp x2 (-1 : Int64)) = 0 → wp_J0_multiplyExact_L61 D post xp k n M))))
set_option maxHeartbeats 4000000 in
set_option maxRecDepth 100000 in
theorem wk_J0_multiplyExact_L45 {p : Program} {l : Launch} {e : Env} {s : State} {m : MethodId} {args : Array Value} {below : List Frame} {meth : Method} {c : Code} {D : zD} {post : Int64 → zM → Prop} {xp : Nat → zM → Prop} {K N : Nat} (hG : zGx p l s m args meth c cJ0_multiplyExact 10 "java/lang/Math" D (some .long) "multiplyExact" []) : ∀ {H : Heap} {locs : List Loc} {cells slots : Nat} {ls : Array Slot} (k : Nat) (n : Nat) (x0 : Int64) (x2 : Int64) (x4 : Int64) (M : zM), cells + k ≤ K → slots + n ≤ N → zS D M H locs → lv_has ls 10 [(0, .long x0), (2, .long x2), (4, .long x4)] → wp_J0_multiplyExact_L45 D post xp k n x0 x2 x4 M → W p l e (rm_J0_multiplyExact K N) s m args below meth c H locs cells slots (vx_MQ below (zQ D zL post) (zX D xp) args s K N (zA D)) (F0 m 45 ls []) := by
  have hC := hG.1
  have hx := hC.x
  have hb := hC.b
  have hown := hC.o
  have hts := hC.ts
  have hlt := hG.2.2.2.2.2
  intro H locs cells slots ls k n x0 x2 x4 M hk hn hZ hl hw
  refine lv_lload_n hx hb dJ0_multiplyExact_45 rfl (lv_at hl 0 rfl) ?_
  refine lv_ldc2 hx hb hown (hts _ q1342) dJ0_multiplyExact_46 ?_
  refine W.lcmp hx hb dJ0_multiplyExact_49 ?_
  refine lv_if_ne (tgt := 71) hx hb dJ0_multiplyExact_50 (by decide) (fun c6 => ?_) (fun c6 => ?_)
  · replace hw := hw.1 c6
    exact wk_J0_multiplyExact_L71 hG _ _ _ _ hk hn hZ (lv_sub hl [2] rfl) hw
  · replace hw := hw.2 c6
    refine lv_lload_n hx hb dJ0_multiplyExact_53 rfl (lv_at hl 1 rfl) ?_
    refine lv_ldc2 hx hb hown (hts _ q1343) dJ0_multiplyExact_54 ?_
    refine W.lcmp hx hb dJ0_multiplyExact_57 ?_
    refine lv_if_ne (tgt := 71) hx hb dJ0_multiplyExact_58 (by decide) (fun c5 => ?_) (fun c5 => ?_)
    · replace hw := hw.1 c5
      exact wk_J0_multiplyExact_L71 hG _ _ _ _ hk hn hZ (lv_sub hl [2] rfl) hw
    · replace hw := hw.2 c5
      exact wk_J0_multiplyExact_L61 hG _ _ _ hk hn hZ (lv_sub hl [] rfl) hw
def wp_J0_multiplyExact (D : zD) (post : Int64 → zM → Prop) (xp : Nat → zM → Prop) (k : Nat) (n : Nat) (a0 : Int64) (a1 : Int64) (M : zM) : Prop :=
    (wp_J0_abs D (fun r7 M => (wp_J0_abs D (fun r10 M => (((lg_cmp (((r7 ||| r10).toUInt64 >>> ((31 : Int32).toInt64.toUInt64 &&& Int64.toUInt64 63)).toInt64) (0 : Int64)) = 0 → wp_J0_multiplyExact_L71 D post xp k n (a0 * a1) M) ∧ (¬ (lg_cmp (((r7 ||| r10).toUInt64 >>> ((31 : Int32).toInt64.toUInt64 &&& Int64.toUInt64 63)).toInt64) (0 : Int64)) = 0 → (((lg_cmp a1 (0 : Int64)) = 0 → wp_J0_multiplyExact_L45 D post xp k n a0 a1 (a0 * a1) M) ∧ (¬ (lg_cmp a1 (0 : Int64)) = 0 → (¬ a1 = 0 ∧ ((¬ (lg_cmp ((a0 * a1) / a1) a0) = 0 → wp_J0_multiplyExact_L61 D post xp k n M) ∧ ((lg_cmp ((a0 * a1) / a1) a0) = 0 → wp_J0_multiplyExact_L45 D post xp k n a0 a1 (a0 * a1) M)))))))) a1 M)) a0 M)
set_option maxHeartbeats 4000000 in
set_option maxRecDepth 100000 in
theorem w_J0_multiplyExact {l : Launch} {D : zD} {post : Int64 → zM → Prop} {xp : Nat → zM → Prop} (hlt : l.stackTraces = false) {k : Nat} {n : Nat} {a0 : Int64} {a1 : Int64} {M : zM} (hw : wp_J0_multiplyExact D post xp k n a0 a1 M) : zMet l D yJ0_multiplyExact (ws_ yJ0_multiplyExact cJ0_multiplyExact 10 (some .long)) (rm_J0_multiplyExact k n) k n [.long a0, .long a1] M zL post xp := by
  unfold wp_J0_multiplyExact at hw
  have hlv : lv_args 0 [.long a0, .long a1] = [(0, .long a0), (2, .long a1)] := (zargs2 rfl (zargs2 rfl rfl))
  refine z_ofWF hlt (by decide +kernel) (Nat.le_trans (zsl2 rfl (zsl2 rfl (Nat.le_refl 0 : (lg_sl []).length ≤ 0))) (Nat.le_of_ble_eq_true rfl)) hlv ?_
  intro p e s m args below meth c ls hG hZ hl
  have hC := hG.1
  have hx := hC.x
  have hb := hC.b
  have hown := hC.o
  have hts := hC.ts
  have hlt := hG.2.2.2.2.2
  obtain ⟨cells, hce⟩ : ∃ z : Nat, z = 0 := ⟨0, rfl⟩
  obtain ⟨slots, hsl⟩ : ∃ z : Nat, z = 0 := ⟨0, rfl⟩
  refine W.cs (cells' := cells) (slots' := slots) hce.symm hsl.symm ?_
  have hk : cells + k ≤ k := by omega
  have hn : slots + n ≤ n := by omega
  clear hce hsl
  refine lv_lload_n hx hb dJ0_multiplyExact_0 rfl (lv_at hl 0 rfl) ?_
  refine lv_lload_n hx hb dJ0_multiplyExact_1 rfl (lv_at hl 1 rfl) ?_
  refine lv_lmul hx hb dJ0_multiplyExact_2 ?_
  refine lv_lstore (i := 4) (lv' := [(4, .long (a0 * a1)), (0, .long a0), (2, .long a1)]) hx hb dJ0_multiplyExact_3 hl (by decide) rfl (fun ls hl1 => ?_)
  replace hl := hl1
  clear hl1
  refine lv_lload_n hx hb dJ0_multiplyExact_5 rfl (lv_at hl 1 rfl) ?_
  refine z_callL hZ (vx_runS (As := [.long a0]) (rest := []) hC.fix (w_J0_abs hlt hw) (va_cwS 1 hts (lw_S q1341 q139 q69 q140) rfl rfl rfl dd_J0_abs ⟨Nat.le_of_ble_eq_true rfl, Nat.le_of_ble_eq_true rfl⟩) (z_preS hC hZ) rfl rfl hl.1 rfl (lv_room (Nat.zero_le _)) dJ0_multiplyExact_6 ⟨(show cells + 0 ≤ k by omega), (show slots + 0 ≤ n by omega)⟩) (fun r16 M H locs hw1 hZ => ?_) (fun q M H locs ci fs E T9 N9 hw hZ hc1 hM1 hb1 => False.elim hw)
  replace hw := hw1
  clear hw1
  refine W.cs (cells' := cells) (slots' := slots) rfl rfl ?_
  refine lv_lstore (i := 6) (lv' := [(6, .long r16), (4, .long (a0 * a1)), (0, .long a0), (2, .long a1)]) hx hb dJ0_multiplyExact_9 hl (by decide) rfl (fun ls hl1 => ?_)
  replace hl := hl1
  clear hl1
  refine lv_lload_n hx hb dJ0_multiplyExact_11 rfl (lv_at hl 3 rfl) ?_
  refine z_callL hZ (vx_runS (As := [.long a1]) (rest := []) hC.fix (w_J0_abs hlt hw) (va_cwS 1 hts (lw_S q1341 q139 q69 q140) rfl rfl rfl dd_J0_abs ⟨Nat.le_of_ble_eq_true rfl, Nat.le_of_ble_eq_true rfl⟩) (z_preS hC hZ) rfl rfl hl.1 rfl (lv_room (Nat.zero_le _)) dJ0_multiplyExact_12 ⟨(show cells + 0 ≤ k by omega), (show slots + 0 ≤ n by omega)⟩) (fun r19 M H locs hw1 hZ => ?_) (fun q M H locs ci fs E T9 N9 hw hZ hc1 hM1 hb1 => False.elim hw)
  replace hw := hw1
  clear hw1
  refine W.cs (cells' := cells) (slots' := slots) rfl rfl ?_
  refine lv_lstore (i := 8) (lv' := [(8, .long r19), (6, .long r16), (4, .long (a0 * a1)), (0, .long a0), (2, .long a1)]) hx hb dJ0_multiplyExact_15 hl (by decide) rfl (fun ls hl1 => ?_)
  replace hl := hl1
  clear hl1
  refine lv_lload hx hb dJ0_multiplyExact_17 (lv_at hl 1 rfl) ?_
  refine lv_lload hx hb dJ0_multiplyExact_19 (lv_at hl 0 rfl) ?_
  refine lv_lor hx hb dJ0_multiplyExact_21 ?_
  refine lv_bipush (v := 31) hx hb dJ0_multiplyExact_22 (by decide) ?_
  refine lv_lushr hx hb dJ0_multiplyExact_24 rfl ?_
  refine lv_lconst (v := 0) hx hb dJ0_multiplyExact_25 (by decide) ?_
  refine W.lcmp hx hb dJ0_multiplyExact_26 ?_
  refine lv_if_eq (tgt := 71) hx hb dJ0_multiplyExact_27 (by decide) (fun c24 => ?_) (fun c24 => ?_)
  · replace hw := hw.1 c24
    exact wk_J0_multiplyExact_L71 hG _ _ _ _ hk hn hZ (lv_sub hl [2] rfl) hw
  · replace hw := hw.2 c24
    refine lv_lload_n hx hb dJ0_multiplyExact_30 rfl (lv_at hl 4 rfl) ?_
    refine lv_lconst (v := 0) hx hb dJ0_multiplyExact_31 (by decide) ?_
    refine W.lcmp hx hb dJ0_multiplyExact_32 ?_
    refine lv_if_eq (tgt := 45) hx hb dJ0_multiplyExact_33 (by decide) (fun c23 => ?_) (fun c23 => ?_)
    · replace hw := hw.1 c23
      exact wk_J0_multiplyExact_L45 hG _ _ _ _ _ _ hk hn hZ (lv_sub hl [3, 4, 2] rfl) hw
    · replace hw := hw.2 c23
      refine lv_lload hx hb dJ0_multiplyExact_36 (lv_at hl 2 rfl) ?_
      refine lv_lload_n hx hb dJ0_multiplyExact_38 rfl (lv_at hl 4 rfl) ?_
      obtain ⟨hz0, hw⟩ := hw
      refine lv_ldiv hx hb dJ0_multiplyExact_39 hz0 ?_
      refine lv_lload_n hx hb dJ0_multiplyExact_40 rfl (lv_at hl 3 rfl) ?_
      refine W.lcmp hx hb dJ0_multiplyExact_41 ?_
      refine lv_if_ne (tgt := 61) hx hb dJ0_multiplyExact_42 (by decide) (fun c22 => ?_) (fun c22 => ?_)
      · replace hw := hw.1 c22
        exact wk_J0_multiplyExact_L61 hG _ _ _ hk hn hZ (lv_sub hl [] rfl) hw
      · replace hw := hw.2 c22
        exact wk_J0_multiplyExact_L45 hG _ _ _ _ _ _ hk hn hZ (lv_sub hl [3, 4, 2] rfl) hw
abbrev rm_J0_multiplyExact_2 (K N : Nat) : Room := { frames := 12, cells := K, slots := N, locals := 200 }
def wp_J0_multiplyExact_2 (D : zD) (post : Int32 → zM → Prop) (xp : Nat → zM → Prop) (k : Nat) (n : Nat) (a0 : Int32) (a1 : Int32) (M : zM) : Prop :=
    (((lg_cmp ((((a0.toInt64) * (a1.toInt64)).toInt32).toInt64) ((a0.toInt64) * (a1.toInt64))) = 0 → post (((a0.toInt64) * (a1.toInt64)).toInt32) M) ∧ (¬ (lg_cmp ((((a0.toInt64) * (a1.toInt64)).toInt32).toInt64) ((a0.toInt64) * (a1.toInt64))) = 0 → (znewX D M 28 k n 1 6 fun b1 M => (zth D M b1 ∧ xp b1 M))))
set_option maxHeartbeats 4000000 in
set_option maxRecDepth 100000 in
theorem w_J0_multiplyExact_2 {l : Launch} {D : zD} {post : Int32 → zM → Prop} {xp : Nat → zM → Prop} (hlt : l.stackTraces = false) {k : Nat} {n : Nat} {a0 : Int32} {a1 : Int32} {M : zM} (hw : wp_J0_multiplyExact_2 D post xp k n a0 a1 M) : zMet l D yJ0_multiplyExact_2 (ws_ yJ0_multiplyExact_2 cJ0_multiplyExact_2 4 (some .int)) (rm_J0_multiplyExact_2 k n) k n [.int a0, .int a1] M zI post xp := by
  unfold wp_J0_multiplyExact_2 at hw
  have hlv : lv_args 0 [.int a0, .int a1] = [(0, .int a0), (1, .int a1)] := (zargs1 rfl (zargs1 rfl rfl))
  refine z_ofWF hlt (by decide +kernel) (Nat.le_trans (zsl1 rfl (zsl1 rfl (Nat.le_refl 0 : (lg_sl []).length ≤ 0))) (Nat.le_of_ble_eq_true rfl)) hlv ?_
  intro p e s m args below meth c ls hG hZ hl
  have hC := hG.1
  have hx := hC.x
  have hb := hC.b
  have hown := hC.o
  have hts := hC.ts
  have hlt := hG.2.2.2.2.2
  obtain ⟨cells, hce⟩ : ∃ z : Nat, z = 0 := ⟨0, rfl⟩
  obtain ⟨slots, hsl⟩ : ∃ z : Nat, z = 0 := ⟨0, rfl⟩
  refine W.cs (cells' := cells) (slots' := slots) hce.symm hsl.symm ?_
  have hk : cells + k ≤ k := by omega
  have hn : slots + n ≤ n := by omega
  clear hce hsl
  refine lv_iload_n hx hb dJ0_multiplyExact_2_0 rfl (lv_at hl 0 rfl) ?_
  refine lv_i2l hx hb dJ0_multiplyExact_2_1 rfl ?_
  refine lv_iload_n hx hb dJ0_multiplyExact_2_2 rfl (lv_at hl 1 rfl) ?_
  refine lv_i2l hx hb dJ0_multiplyExact_2_3 rfl ?_
  refine lv_lmul hx hb dJ0_multiplyExact_2_4 ?_
  refine lv_lstore_n (i := 2) (lv' := [(2, .long ((a0.toInt64) * (a1.toInt64))), (0, .int a0), (1, .int a1)]) hx hb dJ0_multiplyExact_2_5 rfl hl (by decide) rfl (fun ls hl1 => ?_)
  replace hl := hl1
  clear hl1
  refine lv_lload_n hx hb dJ0_multiplyExact_2_6 rfl (lv_at hl 0 rfl) ?_
  refine lv_l2i hx hb dJ0_multiplyExact_2_7 rfl ?_
  refine lv_i2l hx hb dJ0_multiplyExact_2_8 rfl ?_
  refine lv_lload_n hx hb dJ0_multiplyExact_2_9 rfl (lv_at hl 0 rfl) ?_
  refine W.lcmp hx hb dJ0_multiplyExact_2_10 ?_
  refine lv_if_eq (tgt := 24) hx hb dJ0_multiplyExact_2_11 (by decide) (fun c4 => ?_) (fun c4 => ?_)
  · replace hw := hw.1 c4
    refine lv_lload_n hx hb dJ0_multiplyExact_2_24 rfl (lv_at hl 0 rfl) ?_
    refine lv_l2i hx hb dJ0_multiplyExact_2_25 rfl ?_
    exact z_iret hG hZ (by omega) (by omega) hw dJ0_multiplyExact_2_26
  · replace hw := hw.2 c4
    obtain ⟨hk1, hn1, hw⟩ := hw
    refine z_makeA (i := 6) hG hZ hl.1 rfl q1344 q1346 dJ0_multiplyExact_2_14 dJ0_multiplyExact_2_17 dJ0_multiplyExact_2_18 dJ0_multiplyExact_2_20 (Nat.le_trans zrm0 (Nat.le_of_ble_eq_true rfl)) (Nat.le_of_ble_eq_true rfl) (Nat.le_of_ble_eq_true rfl) (show cells + 1 ≤ k by omega) (show slots + 6 ≤ n by omega) (fun b3 H hq0 hq1 hZ => ?_)
    replace hw := hw b3 hq0 hq1
    generalize zu M _ _ = M at hw hZ
    have hk : cells + 1 + (k - 1) ≤ k := by omega
    have hn : slots + 6 + (n - 6) ≤ n := by omega
    generalize cells + 1 = cells at hk ⊢
    generalize slots + 6 = slots at hn ⊢
    clear hk1 hn1
    obtain ⟨⟨ci0, fs0, hci0, hM0, hb0⟩, hw⟩ := hw
    obtain ⟨E0, T0, N0, hc0⟩ := z_cl hci0
    refine vx_athrow hx hb dJ0_multiplyExact_2_23 ?_
    exact z_out hG hZ hM0 hb0 hc0 za0 (by omega) (by omega) hw
abbrev rm_J0_toIntExact (K N : Nat) : Room := { frames := 12, cells := K, slots := N, locals := 200 }
def wp_J0_toIntExact (D : zD) (post : Int32 → zM → Prop) (xp : Nat → zM → Prop) (k : Nat) (n : Nat) (a0 : Int64) (M : zM) : Prop :=
    (((lg_cmp ((a0.toInt32).toInt64) a0) = 0 → post (a0.toInt32) M) ∧ (¬ (lg_cmp ((a0.toInt32).toInt64) a0) = 0 → (znewX D M 28 k n 1 6 fun b1 M => (zth D M b1 ∧ xp b1 M))))
set_option maxHeartbeats 4000000 in
set_option maxRecDepth 100000 in
theorem w_J0_toIntExact {l : Launch} {D : zD} {post : Int32 → zM → Prop} {xp : Nat → zM → Prop} (hlt : l.stackTraces = false) {k : Nat} {n : Nat} {a0 : Int64} {M : zM} (hw : wp_J0_toIntExact D post xp k n a0 M) : zMet l D yJ0_toIntExact (ws_ yJ0_toIntExact cJ0_toIntExact 2 (some .int)) (rm_J0_toIntExact k n) k n [.long a0] M zI post xp := by
  unfold wp_J0_toIntExact at hw
  have hlv : lv_args 0 [.long a0] = [(0, .long a0)] := (zargs2 rfl rfl)
  refine z_ofWF hlt (by decide +kernel) (Nat.le_trans (zsl2 rfl (Nat.le_refl 0 : (lg_sl []).length ≤ 0)) (Nat.le_of_ble_eq_true rfl)) hlv ?_
  intro p e s m args below meth c ls hG hZ hl
  have hC := hG.1
  have hx := hC.x
  have hb := hC.b
  have hown := hC.o
  have hts := hC.ts
  have hlt := hG.2.2.2.2.2
  obtain ⟨cells, hce⟩ : ∃ z : Nat, z = 0 := ⟨0, rfl⟩
  obtain ⟨slots, hsl⟩ : ∃ z : Nat, z = 0 := ⟨0, rfl⟩
  refine W.cs (cells' := cells) (slots' := slots) hce.symm hsl.symm ?_
  have hk : cells + k ≤ k := by omega
  have hn : slots + n ≤ n := by omega
  clear hce hsl
  refine lv_lload_n hx hb dJ0_toIntExact_0 rfl (lv_at hl 0 rfl) ?_
  refine lv_l2i hx hb dJ0_toIntExact_1 rfl ?_
  refine lv_i2l hx hb dJ0_toIntExact_2 rfl ?_
  refine lv_lload_n hx hb dJ0_toIntExact_3 rfl (lv_at hl 0 rfl) ?_
  refine W.lcmp hx hb dJ0_toIntExact_4 ?_
  refine lv_if_eq (tgt := 18) hx hb dJ0_toIntExact_5 (by decide) (fun c4 => ?_) (fun c4 => ?_)
  · replace hw := hw.1 c4
    refine lv_lload_n hx hb dJ0_toIntExact_18 rfl (lv_at hl 0 rfl) ?_
    refine lv_l2i hx hb dJ0_toIntExact_19 rfl ?_
    exact z_iret hG hZ (by omega) (by omega) hw dJ0_toIntExact_20
  · replace hw := hw.2 c4
    obtain ⟨hk1, hn1, hw⟩ := hw
    refine z_makeA (i := 6) hG hZ hl.1 rfl q1344 q1346 dJ0_toIntExact_8 dJ0_toIntExact_11 dJ0_toIntExact_12 dJ0_toIntExact_14 (Nat.le_trans zrm0 (Nat.le_of_ble_eq_true rfl)) (Nat.le_of_ble_eq_true rfl) (Nat.le_of_ble_eq_true rfl) (show cells + 1 ≤ k by omega) (show slots + 6 ≤ n by omega) (fun b3 H hq0 hq1 hZ => ?_)
    replace hw := hw b3 hq0 hq1
    generalize zu M _ _ = M at hw hZ
    have hk : cells + 1 + (k - 1) ≤ k := by omega
    have hn : slots + 6 + (n - 6) ≤ n := by omega
    generalize cells + 1 = cells at hk ⊢
    generalize slots + 6 = slots at hn ⊢
    clear hk1 hn1
    obtain ⟨⟨ci0, fs0, hci0, hM0, hb0⟩, hw⟩ := hw
    obtain ⟨E0, T0, N0, hc0⟩ := z_cl hci0
    refine vx_athrow hx hb dJ0_toIntExact_17 ?_
    exact z_out hG hZ hM0 hb0 hc0 za0 (by omega) (by omega) hw
abbrev rm_J8_init_2 : Room := { frames := 1, cells := 0, slots := 0, locals := 64 }
def wp_J8_init_2_L60 (D : zD) (post : Unit → zM → Prop) (o : Nat) (M : zM) : Prop :=
    post () M
set_option maxHeartbeats 4000000 in
set_option maxRecDepth 100000 in
theorem wk_J8_init_2_L60 {p : Program} {l : Launch} {e : Env} {s : State} {m : MethodId} {args : Array Value} {below : List Frame} {meth : Method} {c : Code} {D : zD} {post : Unit → zM → Prop} {o : Nat} (hG : zGx p l s m args meth c cJ8_init_2 5 "java/lang/Throwable" D (none) "<init>" []) : ∀ {H : Heap} {locs : List Loc} {cells slots : Nat} {ls : Array Slot} (M : zM), cells ≤ 0 → slots ≤ 0 → zS D M H locs → lv_has ls 5 [] → wp_J8_init_2_L60 D post o M → W p l e rm_J8_init_2 s m args below meth c H locs cells slots (vx_MQ below (zQ D zU post) (zX D (fun _ _ => False)) args s 0 0 (zA D)) (F0 m 60 ls []) := by
  have hC := hG.1
  have hx := hC.x
  have hb := hC.b
  have hown := hC.o
  have hts := hC.ts
  have hlt := hG.2.2.2.2.2
  intro H locs cells slots ls M hk hn hZ hl hw
  exact z_vret hG hZ hk hn hw dJ8_init_2_60
def wp_J8_init_2 (D : zD) (post : Unit → zM → Prop) (o : Nat) (a0 : Option Nat) (a1 : Option Nat) (a2 : Int32) (a3 : Int32) (M : zM) : Prop :=
    (zp D M o 13 0 (.ref o) fun M => (∀ r1 : Option Nat, (zp D M o 13 1 (va_rf r1) fun M => (∀ r2 : Option Nat, (zp D M o 13 2 (va_rf r2) fun M => ((a3 = 0 → (zp D M o 13 1 (va_rf none) fun M => (zp D M o 13 3 (va_rf a0) fun M => (zp D M o 13 0 (va_rf a1) fun M => ((¬ a2 = 0 → wp_J8_init_2_L60 D post o M) ∧ (a2 = 0 → (zp D M o 13 2 (va_rf none) fun M => wp_J8_init_2_L60 D post o M))))))) ∧ (¬ a3 = 0 → False)))))))
set_option maxHeartbeats 4000000 in
set_option maxRecDepth 100000 in
theorem w_J8_init_2 {l : Launch} {D : zD} {post : Unit → zM → Prop} (hlt : l.stackTraces = false) {o : Nat} {a0 : Option Nat} {a1 : Option Nat} {a2 : Int32} {a3 : Int32} {M : zM} (hw : wp_J8_init_2 D post o a0 a1 a2 a3 M) : zMet l D yJ8_init_2 (ws_ yJ8_init_2 cJ8_init_2 5 (none)) rm_J8_init_2 0 0 [.ref o, va_rf a0, va_rf a1, .int a2, .int a3] M zU post (fun _ _ => False) := by
  unfold wp_J8_init_2 at hw
  have hlv : lv_args 0 [.ref o, va_rf a0, va_rf a1, .int a2, .int a3] = [(0, .ref o), (1, va_rf a0), (2, va_rf a1), (3, .int a2), (4, .int a3)] := (zargs1 rfl (zargs1 (zcat _) (zargs1 (zcat _) (zargs1 rfl (zargs1 rfl rfl)))))
  refine z_ofW hlt (by decide) (Nat.le_trans (zsl1 rfl (zsl1 (zcat _) (zsl1 (zcat _) (zsl1 rfl (zsl1 rfl (Nat.le_refl 0 : (lg_sl []).length ≤ 0)))))) (Nat.le_of_ble_eq_true rfl)) hlv ?_
  intro p e s m args below meth c ls hG hZ hl
  have hC := hG.1
  have hx := hC.x
  have hb := hC.b
  have hown := hC.o
  have hts := hC.ts
  have hlt := hG.2.2.2.2.2
  obtain ⟨cells, hce⟩ : ∃ z : Nat, z = 0 := ⟨0, rfl⟩
  obtain ⟨slots, hsl⟩ : ∃ z : Nat, z = 0 := ⟨0, rfl⟩
  refine W.cs (cells' := cells) (slots' := slots) hce.symm hsl.symm ?_
  have hk : cells ≤ 0 := Nat.le_of_eq hce
  have hn : slots ≤ 0 := Nat.le_of_eq hsl
  clear hce hsl
  refine lv_aload_n hx hb dJ8_init_2_0 rfl (lv_at hl 0 rfl) ?_
  refine W.objInit hx hb hown (hts _ q673) (hts _ q124) (hts _ q125) rfl (by rw [hC.ml]; exact hl.1) rfl dJ8_init_2_1 (Nat.le_of_ble_eq_true rfl) (Nat.le_of_ble_eq_true rfl) ?_
  refine W.eq (g2 := F0 m 4 ls []) rfl ?_
  refine lv_aload_n hx hb dJ8_init_2_4 rfl (lv_at hl 0 rfl) ?_
  refine lv_aload_n hx hb dJ8_init_2_5 rfl (lv_at hl 0 rfl) ?_
  obtain ⟨fs0, hM0, hb0, hk0, hw⟩ := hw
  refine z_put hC hZ hM0 hb0 zc13 0 (by decide) q705 (fun _ h9 => h9) (by decide) rfl rfl hk0 dJ8_init_2_6 (fun H locs hZ => ?_)
  generalize zu M _ _ = M at hw hZ
  refine lv_aload_n hx hb dJ8_init_2_9 rfl (lv_at hl 0 rfl) ?_
  refine z_getsq hC hZ hC.K.2.2.2.2.2.2.1.2.1.1 q674 (fun _ h9 => h9) dJ8_init_2_10 (fun r12 => ?_)
  replace hw := hw r12
  obtain ⟨fs0, hM0, hb0, hk0, hw⟩ := hw
  refine z_put hC hZ hM0 hb0 zc13 1 (by decide) q706 (fun _ h9 => h9) (by decide) zrf_narA zrf_fitA hk0 dJ8_init_2_13 (fun H locs hZ => ?_)
  generalize zu M _ _ = M at hw hZ
  refine lv_aload_n hx hb dJ8_init_2_16 rfl (lv_at hl 0 rfl) ?_
  refine z_getsq hC hZ hC.K.2.2.2.2.2.2.1.2.2.1 q676 (fun _ h9 => h9) dJ8_init_2_17 (fun r13 => ?_)
  replace hw := hw r13
  obtain ⟨fs0, hM0, hb0, hk0, hw⟩ := hw
  refine z_put hC hZ hM0 hb0 zc13 2 (by decide) q707 (fun _ h9 => h9) (by decide) zrf_nar zrf_fit hk0 dJ8_init_2_20 (fun H locs hZ => ?_)
  generalize zu M _ _ = M at hw hZ
  refine lv_iload hx hb dJ8_init_2_23 (lv_at hl 4 rfl) ?_
  refine lv_if_eq (tgt := 36) hx hb dJ8_init_2_25 (by decide) (fun c19 => ?_) (fun c19 => ?_)
  · replace hw := hw.1 c19
    refine lv_aload_n hx hb dJ8_init_2_36 rfl (lv_at hl 0 rfl) ?_
    refine z_null hC dJ8_init_2_37 ?_
    obtain ⟨fs0, hM0, hb0, hk0, hw⟩ := hw
    refine z_put hC hZ hM0 hb0 zc13 1 (by decide) q706 (fun _ h9 => h9) (by decide) zrf_narA zrf_fitA hk0 dJ8_init_2_38 (fun H locs hZ => ?_)
    generalize zu M _ _ = M at hw hZ
    refine lv_aload_n hx hb dJ8_init_2_41 rfl (lv_at hl 0 rfl) ?_
    refine z_aload_n hC dJ8_init_2_42 rfl (lv_at hl 1 rfl) ?_
    obtain ⟨fs0, hM0, hb0, hk0, hw⟩ := hw
    refine z_put hC hZ hM0 hb0 zc13 3 (by decide) q704 (fun _ h9 => h9) (by decide) zrf_nar zrf_fit hk0 dJ8_init_2_43 (fun H locs hZ => ?_)
    generalize zu M _ _ = M at hw hZ
    refine lv_aload_n hx hb dJ8_init_2_46 rfl (lv_at hl 0 rfl) ?_
    refine z_aload_n hC dJ8_init_2_47 rfl (lv_at hl 2 rfl) ?_
    obtain ⟨fs0, hM0, hb0, hk0, hw⟩ := hw
    refine z_put hC hZ hM0 hb0 zc13 0 (by decide) q705 (fun _ h9 => h9) (by decide) zrf_nar zrf_fit hk0 dJ8_init_2_48 (fun H locs hZ => ?_)
    generalize zu M _ _ = M at hw hZ
    refine lv_iload_n hx hb dJ8_init_2_51 rfl (lv_at hl 3 rfl) ?_
    refine lv_if_ne (tgt := 60) hx hb dJ8_init_2_52 (by decide) (fun c15 => ?_) (fun c15 => ?_)
    · replace hw := hw.1 c15
      exact wk_J8_init_2_L60 hG _ hk hn hZ (lv_sub hl [] rfl) hw
    · replace hw := hw.2 c15
      refine lv_aload_n hx hb dJ8_init_2_55 rfl (lv_at hl 0 rfl) ?_
      refine z_null hC dJ8_init_2_56 ?_
      obtain ⟨fs0, hM0, hb0, hk0, hw⟩ := hw
      refine z_put hC hZ hM0 hb0 zc13 2 (by decide) q707 (fun _ h9 => h9) (by decide) zrf_nar zrf_fit hk0 dJ8_init_2_57 (fun H locs hZ => ?_)
      generalize zu M _ _ = M at hw hZ
      exact wk_J8_init_2_L60 hG _ hk hn hZ (lv_sub hl [] rfl) hw
  · replace hw := hw.2 c19
    refine lv_aload_n hx hb dJ8_init_2_28 rfl (lv_at hl 0 rfl) ?_
    exact hw.elim
abbrev rm_J9_init : Room := { frames := 2, cells := 0, slots := 0, locals := 88 }
def wp_J9_init (D : zD) (post : Unit → zM → Prop) (o : Nat) (a0 : Option Nat) (a1 : Option Nat) (a2 : Int32) (a3 : Int32) (M : zM) : Prop :=
    (wp_J8_init_2 D (fun _ M => post () M) o a0 a1 a2 a3 M)
set_option maxHeartbeats 4000000 in
set_option maxRecDepth 100000 in
theorem w_J9_init {l : Launch} {D : zD} {post : Unit → zM → Prop} (hlt : l.stackTraces = false) {o : Nat} {a0 : Option Nat} {a1 : Option Nat} {a2 : Int32} {a3 : Int32} {M : zM} (hw : wp_J9_init D post o a0 a1 a2 a3 M) : zMet l D yJ9_init (ws_ yJ9_init cJ9_init 5 (none)) rm_J9_init 0 0 [.ref o, va_rf a0, va_rf a1, .int a2, .int a3] M zU post (fun _ _ => False) := by
  unfold wp_J9_init at hw
  have hlv : lv_args 0 [.ref o, va_rf a0, va_rf a1, .int a2, .int a3] = [(0, .ref o), (1, va_rf a0), (2, va_rf a1), (3, .int a2), (4, .int a3)] := (zargs1 rfl (zargs1 (zcat _) (zargs1 (zcat _) (zargs1 rfl (zargs1 rfl rfl)))))
  refine z_ofW hlt (by decide) (Nat.le_trans (zsl1 rfl (zsl1 (zcat _) (zsl1 (zcat _) (zsl1 rfl (zsl1 rfl (Nat.le_refl 0 : (lg_sl []).length ≤ 0)))))) (Nat.le_of_ble_eq_true rfl)) hlv ?_
  intro p e s m args below meth c ls hG hZ hl
  have hC := hG.1
  have hx := hC.x
  have hb := hC.b
  have hown := hC.o
  have hts := hC.ts
  have hlt := hG.2.2.2.2.2
  obtain ⟨cells, hce⟩ : ∃ z : Nat, z = 0 := ⟨0, rfl⟩
  obtain ⟨slots, hsl⟩ : ∃ z : Nat, z = 0 := ⟨0, rfl⟩
  refine W.cs (cells' := cells) (slots' := slots) hce.symm hsl.symm ?_
  have hk : cells ≤ 0 := Nat.le_of_eq hce
  have hn : slots ≤ 0 := Nat.le_of_eq hsl
  clear hce hsl
  refine lv_aload_n hx hb dJ9_init_0 rfl (lv_at hl 0 rfl) ?_
  refine z_aload_n hC dJ9_init_1 rfl (lv_at hl 1 rfl) ?_
  refine z_aload_n hC dJ9_init_2 rfl (lv_at hl 2 rfl) ?_
  refine lv_iload_n hx hb dJ9_init_3 rfl (lv_at hl 3 rfl) ?_
  refine lv_iload hx hb dJ9_init_4 (lv_at hl 4 rfl) ?_
  refine z_callU hZ (vx_runI (As := [va_rf a0, va_rf a1, .int a2, .int a3]) (rest := []) hC.fix (w_J8_init_2 hlt hw) (cwI 4 hts (lw_meth q700) rfl rfl rfl (hts _ q91) (hts _ q698) (hts _ q699) rfl dd_J8_init_2 ⟨Nat.le_of_ble_eq_true rfl, Nat.le_of_ble_eq_true rfl⟩) (z_preS hC hZ) rfl rfl hl.1 rfl (lv_room (Nat.zero_le _)) dJ9_init_6 ⟨hk, hn⟩) (fun r4 M H locs hw1 hZ => ?_) (fun q M H locs ci fs E T9 N9 hw hZ hc1 hM1 hb1 => False.elim hw)
  replace hw := hw1
  clear hw1
  refine W.cs (cells' := cells) (slots' := slots) rfl rfl ?_
  exact z_vret hG hZ hk hn hw dJ9_init_9
abbrev rm_J10_init : Room := { frames := 3, cells := 0, slots := 0, locals := 112 }
def wp_J10_init (D : zD) (post : Unit → zM → Prop) (o : Nat) (a0 : Option Nat) (a1 : Option Nat) (a2 : Int32) (a3 : Int32) (M : zM) : Prop :=
    (wp_J9_init D (fun _ M => post () M) o a0 a1 a2 a3 M)
set_option maxHeartbeats 4000000 in
set_option maxRecDepth 100000 in
theorem w_J10_init {l : Launch} {D : zD} {post : Unit → zM → Prop} (hlt : l.stackTraces = false) {o : Nat} {a0 : Option Nat} {a1 : Option Nat} {a2 : Int32} {a3 : Int32} {M : zM} (hw : wp_J10_init D post o a0 a1 a2 a3 M) : zMet l D yJ10_init (ws_ yJ10_init cJ10_init 5 (none)) rm_J10_init 0 0 [.ref o, va_rf a0, va_rf a1, .int a2, .int a3] M zU post (fun _ _ => False) := by
  unfold wp_J10_init at hw
  have hlv : lv_args 0 [.ref o, va_rf a0, va_rf a1, .int a2, .int a3] = [(0, .ref o), (1, va_rf a0), (2, va_rf a1), (3, .int a2), (4, .int a3)] := (zargs1 rfl (zargs1 (zcat _) (zargs1 (zcat _) (zargs1 rfl (zargs1 rfl rfl)))))
  refine z_ofW hlt (by decide) (Nat.le_trans (zsl1 rfl (zsl1 (zcat _) (zsl1 (zcat _) (zsl1 rfl (zsl1 rfl (Nat.le_refl 0 : (lg_sl []).length ≤ 0)))))) (Nat.le_of_ble_eq_true rfl)) hlv ?_
  intro p e s m args below meth c ls hG hZ hl
  have hC := hG.1
  have hx := hC.x
  have hb := hC.b
  have hown := hC.o
  have hts := hC.ts
  have hlt := hG.2.2.2.2.2
  obtain ⟨cells, hce⟩ : ∃ z : Nat, z = 0 := ⟨0, rfl⟩
  obtain ⟨slots, hsl⟩ : ∃ z : Nat, z = 0 := ⟨0, rfl⟩
  refine W.cs (cells' := cells) (slots' := slots) hce.symm hsl.symm ?_
  have hk : cells ≤ 0 := Nat.le_of_eq hce
  have hn : slots ≤ 0 := Nat.le_of_eq hsl
  clear hce hsl
  refine lv_aload_n hx hb dJ10_init_0 rfl (lv_at hl 0 rfl) ?_
  refine z_aload_n hC dJ10_init_1 rfl (lv_at hl 1 rfl) ?_
  refine z_aload_n hC dJ10_init_2 rfl (lv_at hl 2 rfl) ?_
  refine lv_iload_n hx hb dJ10_init_3 rfl (lv_at hl 3 rfl) ?_
  refine lv_iload hx hb dJ10_init_4 (lv_at hl 4 rfl) ?_
  refine z_callU hZ (vx_runI (As := [va_rf a0, va_rf a1, .int a2, .int a3]) (rest := []) hC.fix (w_J9_init hlt hw) (cwI 4 hts (lw_meth q697) rfl rfl rfl (hts _ q92) (hts _ q695) (hts _ q696) rfl dd_J9_init ⟨Nat.le_of_ble_eq_true rfl, Nat.le_of_ble_eq_true rfl⟩) (z_preS hC hZ) rfl rfl hl.1 rfl (lv_room (Nat.zero_le _)) dJ10_init_6 ⟨hk, hn⟩) (fun r4 M H locs hw1 hZ => ?_) (fun q M H locs ci fs E T9 N9 hw hZ hc1 hM1 hb1 => False.elim hw)
  replace hw := hw1
  clear hw1
  refine W.cs (cells' := cells) (slots' := slots) rfl rfl ?_
  exact z_vret hG hZ hk hn hw dJ10_init_9
abbrev rm_J11_isLatin1 : Room := { frames := 1, cells := 0, slots := 0, locals := 64 }
def wp_J11_isLatin1_L18 (D : zD) (post : Int32 → zM → Prop) (o : Nat) (y0 : Int32) (M : zM) : Prop :=
    (narrow .boolean (.int y0) = .int y0 ∧ post y0 M)
set_option maxHeartbeats 4000000 in
set_option maxRecDepth 100000 in
theorem wk_J11_isLatin1_L18 {p : Program} {l : Launch} {e : Env} {s : State} {m : MethodId} {args : Array Value} {below : List Frame} {meth : Method} {c : Code} {D : zD} {post : Int32 → zM → Prop} {o : Nat} (hG : zGx p l s m args meth c cJ11_isLatin1 1 "java/lang/String" D (some .boolean) "isLatin1" []) : ∀ {H : Heap} {locs : List Loc} {cells slots : Nat} {ls : Array Slot} (y0 : Int32) (M : zM), cells ≤ 0 → slots ≤ 0 → zS D M H locs → lv_has ls 1 [] → wp_J11_isLatin1_L18 D post o y0 M → W p l e rm_J11_isLatin1 s m args below meth c H locs cells slots (vx_MQ below (zQ D zI post) (zX D (fun _ _ => False)) args s 0 0 (zA D)) (F0 m 18 ls [.int y0]) := by
  have hC := hG.1
  have hx := hC.x
  have hb := hC.b
  have hown := hC.o
  have hts := hC.ts
  have hlt := hG.2.2.2.2.2
  intro H locs cells slots ls y0 M hk hn hZ hl hw
  exact z_zret hG hZ hk hn hw.1 hw.2 dJ11_isLatin1_18
def wp_J11_isLatin1_L17 (D : zD) (post : Int32 → zM → Prop) (o : Nat) (M : zM) : Prop :=
    wp_J11_isLatin1_L18 D post o (0 : Int32) M
set_option maxHeartbeats 4000000 in
set_option maxRecDepth 100000 in
theorem wk_J11_isLatin1_L17 {p : Program} {l : Launch} {e : Env} {s : State} {m : MethodId} {args : Array Value} {below : List Frame} {meth : Method} {c : Code} {D : zD} {post : Int32 → zM → Prop} {o : Nat} (hG : zGx p l s m args meth c cJ11_isLatin1 1 "java/lang/String" D (some .boolean) "isLatin1" []) : ∀ {H : Heap} {locs : List Loc} {cells slots : Nat} {ls : Array Slot} (M : zM), cells ≤ 0 → slots ≤ 0 → zS D M H locs → lv_has ls 1 [] → wp_J11_isLatin1_L17 D post o M → W p l e rm_J11_isLatin1 s m args below meth c H locs cells slots (vx_MQ below (zQ D zI post) (zX D (fun _ _ => False)) args s 0 0 (zA D)) (F0 m 17 ls []) := by
  have hC := hG.1
  have hx := hC.x
  have hb := hC.b
  have hown := hC.o
  have hts := hC.ts
  have hlt := hG.2.2.2.2.2
  intro H locs cells slots ls M hk hn hZ hl hw
  refine lv_iconst (v := 0) hx hb dJ11_isLatin1_17 (by decide) ?_
  exact wk_J11_isLatin1_L18 hG _ _ hk hn hZ (lv_sub hl [] rfl) hw
def wp_J11_isLatin1 (D : zD) (post : Int32 → zM → Prop) (o : Nat) (M : zM) : Prop :=
    (((1 : Int32) = 0 → wp_J11_isLatin1_L17 D post o M) ∧ (¬ (1 : Int32) = 0 → (zgI M o 30 1 fun g1 => ((¬ g1 = 0 → wp_J11_isLatin1_L17 D post o M) ∧ (g1 = 0 → wp_J11_isLatin1_L18 D post o (1 : Int32) M)))))
set_option maxHeartbeats 4000000 in
set_option maxRecDepth 100000 in
theorem w_J11_isLatin1 {l : Launch} {D : zD} {post : Int32 → zM → Prop} (hlt : l.stackTraces = false) {o : Nat} {M : zM} (hw : wp_J11_isLatin1 D post o M) : zMet l D yJ11_isLatin1 (ws_ yJ11_isLatin1 cJ11_isLatin1 1 (some .boolean)) rm_J11_isLatin1 0 0 [.ref o] M zI post (fun _ _ => False) := by
  unfold wp_J11_isLatin1 at hw
  have hlv : lv_args 0 [.ref o] = [(0, .ref o)] := (zargs1 rfl rfl)
  refine z_ofW hlt (by decide) (Nat.le_trans (zsl1 rfl (Nat.le_refl 0 : (lg_sl []).length ≤ 0)) (Nat.le_of_ble_eq_true rfl)) hlv ?_
  intro p e s m args below meth c ls hG hZ hl
  have hC := hG.1
  have hx := hC.x
  have hb := hC.b
  have hown := hC.o
  have hts := hC.ts
  have hlt := hG.2.2.2.2.2
  obtain ⟨cells, hce⟩ : ∃ z : Nat, z = 0 := ⟨0, rfl⟩
  obtain ⟨slots, hsl⟩ : ∃ z : Nat, z = 0 := ⟨0, rfl⟩
  refine W.cs (cells' := cells) (slots' := slots) hce.symm hsl.symm ?_
  have hk : cells ≤ 0 := Nat.le_of_eq hce
  have hn : slots ≤ 0 := Nat.le_of_eq hsl
  clear hce hsl
  refine z_gets hC hZ hC.K.2.2.2.2.2.1.2.2 q884 (fun _ h9 => h9) dJ11_isLatin1_0 ?_
  refine lv_if_eq (tgt := 17) hx hb dJ11_isLatin1_3 (by decide) (fun c6 => ?_) (fun c6 => ?_)
  · replace hw := hw.1 c6
    exact wk_J11_isLatin1_L17 hG _ hk hn hZ (lv_sub hl [] rfl) hw
  · replace hw := hw.2 c6
    refine lv_aload_n hx hb dJ11_isLatin1_6 rfl (lv_at hl 0 rfl) ?_
    obtain ⟨fs0, g4, hM0, hx0, hw⟩ := hw
    refine z_get hC hZ hM0 zc30 1 (by decide) q2328 (fun _ h9 => h9) hx0 dJ11_isLatin1_7 ?_
    refine lv_if_ne (tgt := 17) hx hb dJ11_isLatin1_10 (by decide) (fun c5 => ?_) (fun c5 => ?_)
    · replace hw := hw.1 c5
      exact wk_J11_isLatin1_L17 hG _ hk hn hZ (lv_sub hl [] rfl) hw
    · replace hw := hw.2 c5
      refine lv_iconst (v := 1) hx hb dJ11_isLatin1_13 (by decide) ?_
      refine lv_goto (tgt := 18) hx hb dJ11_isLatin1_14 (by decide) ?_
      exact wk_J11_isLatin1_L18 hG _ _ hk hn hZ (lv_sub hl [] rfl) hw
abbrev rm_J7_checkIndex : Room := { frames := 1, cells := 0, slots := 0, locals := 64 }
def wp_J7_checkIndex_L9 (D : zD) (post : Int32 → zM → Prop) (x0 : Int32) (x1 : Int32) (x2 : Option Nat) (M : zM) : Prop :=
    False
set_option maxHeartbeats 4000000 in
set_option maxRecDepth 100000 in
theorem wk_J7_checkIndex_L9 {p : Program} {l : Launch} {e : Env} {s : State} {m : MethodId} {args : Array Value} {below : List Frame} {meth : Method} {c : Code} {D : zD} {post : Int32 → zM → Prop} (hG : zGx p l s m args meth c cJ7_checkIndex 3 "jdk/internal/util/Preconditions" D (some .int) "checkIndex" []) : ∀ {H : Heap} {locs : List Loc} {cells slots : Nat} {ls : Array Slot} (x0 : Int32) (x1 : Int32) (x2 : Option Nat) (M : zM), cells ≤ 0 → slots ≤ 0 → zS D M H locs → lv_has ls 3 [(0, .int x0), (1, .int x1), (2, va_rf x2)] → wp_J7_checkIndex_L9 D post x0 x1 x2 M → W p l e rm_J7_checkIndex s m args below meth c H locs cells slots (vx_MQ below (zQ D zI post) (zX D (fun _ _ => False)) args s 0 0 (zA D)) (F0 m 9 ls []) := by
  have hC := hG.1
  have hx := hC.x
  have hb := hC.b
  have hown := hC.o
  have hts := hC.ts
  have hlt := hG.2.2.2.2.2
  intro H locs cells slots ls x0 x1 x2 M hk hn hZ hl hw
  refine z_aload_n hC dJ7_checkIndex_9 rfl (lv_at hl 2 rfl) ?_
  refine lv_iload_n hx hb dJ7_checkIndex_10 rfl (lv_at hl 0 rfl) ?_
  refine lv_iload_n hx hb dJ7_checkIndex_11 rfl (lv_at hl 1 rfl) ?_
  exact hw.elim
def wp_J7_checkIndex (D : zD) (post : Int32 → zM → Prop) (a0 : Int32) (a1 : Int32) (a2 : Option Nat) (M : zM) : Prop :=
    ((a0 < 0 → wp_J7_checkIndex_L9 D post a0 a1 a2 M) ∧ (¬ a0 < 0 → ((a0 < a1 → post a0 M) ∧ (¬ a0 < a1 → wp_J7_checkIndex_L9 D post a0 a1 a2 M))))
set_option maxHeartbeats 4000000 in
set_option maxRecDepth 100000 in
theorem w_J7_checkIndex {l : Launch} {D : zD} {post : Int32 → zM → Prop} (hlt : l.stackTraces = false) {a0 : Int32} {a1 : Int32} {a2 : Option Nat} {M : zM} (hw : wp_J7_checkIndex D post a0 a1 a2 M) : zMet l D yJ7_checkIndex (ws_ yJ7_checkIndex cJ7_checkIndex 3 (some .int)) rm_J7_checkIndex 0 0 [.int a0, .int a1, va_rf a2] M zI post (fun _ _ => False) := by
  unfold wp_J7_checkIndex at hw
  have hlv : lv_args 0 [.int a0, .int a1, va_rf a2] = [(0, .int a0), (1, .int a1), (2, va_rf a2)] := (zargs1 rfl (zargs1 rfl (zargs1 (zcat _) rfl)))
  refine z_ofW hlt (by decide) (Nat.le_trans (zsl1 rfl (zsl1 rfl (zsl1 (zcat _) (Nat.le_refl 0 : (lg_sl []).length ≤ 0)))) (Nat.le_of_ble_eq_true rfl)) hlv ?_
  intro p e s m args below meth c ls hG hZ hl
  have hC := hG.1
  have hx := hC.x
  have hb := hC.b
  have hown := hC.o
  have hts := hC.ts
  have hlt := hG.2.2.2.2.2
  obtain ⟨cells, hce⟩ : ∃ z : Nat, z = 0 := ⟨0, rfl⟩
  obtain ⟨slots, hsl⟩ : ∃ z : Nat, z = 0 := ⟨0, rfl⟩
  refine W.cs (cells' := cells) (slots' := slots) hce.symm hsl.symm ?_
  have hk : cells ≤ 0 := Nat.le_of_eq hce
  have hn : slots ≤ 0 := Nat.le_of_eq hsl
  clear hce hsl
  refine lv_iload_n hx hb dJ7_checkIndex_0 rfl (lv_at hl 0 rfl) ?_
  refine lv_if_lt (tgt := 9) hx hb dJ7_checkIndex_1 (by decide) (fun c4 => ?_) (fun c4 => ?_)
  · replace hw := hw.1 c4
    exact wk_J7_checkIndex_L9 hG _ _ _ _ hk hn hZ (lv_sub hl [0, 1, 2] rfl) hw
  · replace hw := hw.2 c4
    refine lv_iload_n hx hb dJ7_checkIndex_4 rfl (lv_at hl 0 rfl) ?_
    refine lv_iload_n hx hb dJ7_checkIndex_5 rfl (lv_at hl 1 rfl) ?_
    refine lv_icmp_lt (tgt := 16) hx hb dJ7_checkIndex_6 (by decide) (fun c3 => ?_) (fun c3 => ?_)
    · replace hw := hw.1 c3
      refine lv_iload_n hx hb dJ7_checkIndex_16 rfl (lv_at hl 0 rfl) ?_
      exact z_iret hG hZ hk hn hw dJ7_checkIndex_17
    · replace hw := hw.2 c3
      exact wk_J7_checkIndex_L9 hG _ _ _ _ hk hn hZ (lv_sub hl [0, 1, 2] rfl) hw
abbrev rm_J11_checkIndex : Room := { frames := 2, cells := 0, slots := 0, locals := 86 }
def wp_J11_checkIndex (D : zD) (post : Unit → zM → Prop) (a0 : Int32) (a1 : Int32) (M : zM) : Prop :=
    (∀ r1 : Option Nat, (wp_J7_checkIndex D (fun r2 M => post () M) a0 a1 r1 M))
set_option maxHeartbeats 4000000 in
set_option maxRecDepth 100000 in
theorem w_J11_checkIndex {l : Launch} {D : zD} {post : Unit → zM → Prop} (hlt : l.stackTraces = false) {a0 : Int32} {a1 : Int32} {M : zM} (hw : wp_J11_checkIndex D post a0 a1 M) : zMet l D yJ11_checkIndex (ws_ yJ11_checkIndex cJ11_checkIndex 2 (none)) rm_J11_checkIndex 0 0 [.int a0, .int a1] M zU post (fun _ _ => False) := by
  unfold wp_J11_checkIndex at hw
  have hlv : lv_args 0 [.int a0, .int a1] = [(0, .int a0), (1, .int a1)] := (zargs1 rfl (zargs1 rfl rfl))
  refine z_ofW hlt (by decide) (Nat.le_trans (zsl1 rfl (zsl1 rfl (Nat.le_refl 0 : (lg_sl []).length ≤ 0))) (Nat.le_of_ble_eq_true rfl)) hlv ?_
  intro p e s m args below meth c ls hG hZ hl
  have hC := hG.1
  have hx := hC.x
  have hb := hC.b
  have hown := hC.o
  have hts := hC.ts
  have hlt := hG.2.2.2.2.2
  obtain ⟨cells, hce⟩ : ∃ z : Nat, z = 0 := ⟨0, rfl⟩
  obtain ⟨slots, hsl⟩ : ∃ z : Nat, z = 0 := ⟨0, rfl⟩
  refine W.cs (cells' := cells) (slots' := slots) hce.symm hsl.symm ?_
  have hk : cells ≤ 0 := Nat.le_of_eq hce
  have hn : slots ≤ 0 := Nat.le_of_eq hsl
  clear hce hsl
  refine lv_iload_n hx hb dJ11_checkIndex_0 rfl (lv_at hl 0 rfl) ?_
  refine lv_iload_n hx hb dJ11_checkIndex_1 rfl (lv_at hl 1 rfl) ?_
  refine z_getsq hC hZ hC.K.2.2.2.2.2.2.1.1 q923 (fun _ h9 => h9) dJ11_checkIndex_2 (fun r5 => ?_)
  replace hw := hw r5
  refine z_callI hZ (vx_runS (As := [.int a0, .int a1, va_rf r5]) (rest := []) hC.fix (w_J7_checkIndex hlt hw) (va_cwS 3 hts (lw_S q1485 q475 q85 q476) rfl rfl rfl dd_J7_checkIndex ⟨Nat.le_of_ble_eq_true rfl, Nat.le_of_ble_eq_true rfl⟩) (z_preS hC hZ) rfl rfl hl.1 rfl (lv_room (Nat.zero_le _)) dJ11_checkIndex_5 ⟨hk, hn⟩) (fun r6 M H locs hw1 hZ => ?_) (fun q M H locs ci fs E T9 N9 hw hZ hc1 hM1 hb1 => False.elim hw)
  replace hw := hw1
  clear hw1
  refine W.cs (cells' := cells) (slots' := slots) rfl rfl ?_
  refine lv_pop hx hb dJ11_checkIndex_8 rfl ?_
  exact z_vret hG hZ hk hn hw dJ11_checkIndex_9
abbrev rm_J12_charAt : Room := { frames := 3, cells := 0, slots := 0, locals := 107 }
def wp_J12_charAt (D : zD) (post : Int32 → zM → Prop) (a0 : Option Nat) (a1 : Int32) (M : zM) : Prop :=
    ((zd a0 fun b1 => zlen M b1 fun n2 => (wp_J11_checkIndex D (fun _ M => (zaI M b1 1 a1 fun v6 => (narrow .char (.int (((v6 &&& (255 : Int32)).toUInt32 % 65536).toInt32)) = .int (((v6 &&& (255 : Int32)).toUInt32 % 65536).toInt32) ∧ post (((v6 &&& (255 : Int32)).toUInt32 % 65536).toInt32) M))) a1 n2 M)))
set_option maxHeartbeats 4000000 in
set_option maxRecDepth 100000 in
theorem w_J12_charAt {l : Launch} {D : zD} {post : Int32 → zM → Prop} (hlt : l.stackTraces = false) {a0 : Option Nat} {a1 : Int32} {M : zM} (hw : wp_J12_charAt D post a0 a1 M) : zMet l D yJ12_charAt (ws_ yJ12_charAt cJ12_charAt 2 (some .char)) rm_J12_charAt 0 0 [va_rf a0, .int a1] M zI post (fun _ _ => False) := by
  unfold wp_J12_charAt at hw
  have hlv : lv_args 0 [va_rf a0, .int a1] = [(0, va_rf a0), (1, .int a1)] := (zargs1 (zcat _) (zargs1 rfl rfl))
  refine z_ofW hlt (by decide) (Nat.le_trans (zsl1 (zcat _) (zsl1 rfl (Nat.le_refl 0 : (lg_sl []).length ≤ 0))) (Nat.le_of_ble_eq_true rfl)) hlv ?_
  intro p e s m args below meth c ls hG hZ hl
  have hC := hG.1
  have hx := hC.x
  have hb := hC.b
  have hown := hC.o
  have hts := hC.ts
  have hlt := hG.2.2.2.2.2
  obtain ⟨cells, hce⟩ : ∃ z : Nat, z = 0 := ⟨0, rfl⟩
  obtain ⟨slots, hsl⟩ : ∃ z : Nat, z = 0 := ⟨0, rfl⟩
  refine W.cs (cells' := cells) (slots' := slots) hce.symm hsl.symm ?_
  have hk : cells ≤ 0 := Nat.le_of_eq hce
  have hn : slots ≤ 0 := Nat.le_of_eq hsl
  clear hce hsl
  refine lv_iload_n hx hb dJ12_charAt_0 rfl (lv_at hl 1 rfl) ?_
  refine z_aload_n hC dJ12_charAt_1 rfl (lv_at hl 0 rfl) ?_
  obtain ⟨b7, hr0, hw⟩ := hw
  subst hr0
  obtain ⟨y0, hM0, hy0, hw⟩ := hw
  refine z_alen hC hZ hM0 hy0 dJ12_charAt_2 ?_
  generalize Int32.ofNat y0.2.1 = n8 at hw ⊢
  refine z_callU hZ (vx_runS (As := [.int a1, .int n8]) (rest := []) hC.fix (w_J11_checkIndex hlt hw) (va_cwS 2 hts (lw_S q1482 q1483 q102 q1484) rfl rfl rfl dd_J11_checkIndex ⟨Nat.le_of_ble_eq_true rfl, Nat.le_of_ble_eq_true rfl⟩) (z_preS hC hZ) rfl rfl hl.1 rfl (lv_room (Nat.zero_le _)) dJ12_charAt_3 ⟨hk, hn⟩) (fun r9 M H locs hw1 hZ => ?_) (fun q M H locs ci fs E T9 N9 hw hZ hc1 hM1 hb1 => False.elim hw)
  replace hw := hw1
  clear hw1
  refine W.cs (cells' := cells) (slots' := slots) rfl rfl ?_
  refine lv_aload_n hx hb dJ12_charAt_6 rfl (lv_at hl 0 rfl) ?_
  refine lv_iload_n hx hb dJ12_charAt_7 rfl (lv_at hl 1 rfl) ?_
  obtain ⟨n0, f0, hM0, hi0, hw⟩ := hw
  refine z_bald hC hZ hM0 hi0 dJ12_charAt_8 ?_
  generalize f0 _ = v12 at hw ⊢
  refine lv_sipush (v := 255) hx hb dJ12_charAt_9 (by decide) ?_
  refine lv_iand hx hb dJ12_charAt_12 ?_
  refine lv_i2c hx hb dJ12_charAt_13 rfl ?_
  exact z_zret hG hZ hk hn hw.1 hw.2 dJ12_charAt_14
abbrev rm_J11_charAt : Room := { frames := 4, cells := 0, slots := 0, locals := 128 }
def wp_J11_charAt (D : zD) (post : Int32 → zM → Prop) (o : Nat) (a0 : Int32) (M : zM) : Prop :=
    ((zis M o [30] ∧ wp_J11_isLatin1 D (fun r1 M => ((r1 = 0 → (zgR M o 30 0 fun g4 => False)) ∧ (¬ r1 = 0 → (zgR M o 30 0 fun g5 => (wp_J12_charAt D (fun r6 M => (narrow .char (.int r6) = .int r6 ∧ post r6 M)) g5 a0 M))))) o M))
set_option maxHeartbeats 4000000 in
set_option maxRecDepth 100000 in
theorem w_J11_charAt {l : Launch} {D : zD} {post : Int32 → zM → Prop} (hlt : l.stackTraces = false) {o : Nat} {a0 : Int32} {M : zM} (hw : wp_J11_charAt D post o a0 M) : zMet l D yJ11_charAt (ws_ yJ11_charAt cJ11_charAt 2 (some .char)) rm_J11_charAt 0 0 [.ref o, .int a0] M zI post (fun _ _ => False) := by
  unfold wp_J11_charAt at hw
  have hlv : lv_args 0 [.ref o, .int a0] = [(0, .ref o), (1, .int a0)] := (zargs1 rfl (zargs1 rfl rfl))
  refine z_ofW hlt (by decide) (Nat.le_trans (zsl1 rfl (zsl1 rfl (Nat.le_refl 0 : (lg_sl []).length ≤ 0))) (Nat.le_of_ble_eq_true rfl)) hlv ?_
  intro p e s m args below meth c ls hG hZ hl
  have hC := hG.1
  have hx := hC.x
  have hb := hC.b
  have hown := hC.o
  have hts := hC.ts
  have hlt := hG.2.2.2.2.2
  obtain ⟨cells, hce⟩ : ∃ z : Nat, z = 0 := ⟨0, rfl⟩
  obtain ⟨slots, hsl⟩ : ∃ z : Nat, z = 0 := ⟨0, rfl⟩
  refine W.cs (cells' := cells) (slots' := slots) hce.symm hsl.symm ?_
  have hk : cells ≤ 0 := Nat.le_of_eq hce
  have hn : slots ≤ 0 := Nat.le_of_eq hsl
  clear hce hsl
  refine lv_aload_n hx hb dJ11_charAt_0 rfl (lv_at hl 0 rfl) ?_
  obtain ⟨⟨ci0, fs0, hci0, hM0⟩, hw⟩ := hw
  obtain rfl : ci0 = 30 := List.mem_singleton.mp hci0
  refine z_callI hZ (vx_runV (As := []) (rest := []) hC.fix (w_J11_isLatin1 hlt hw) (cwV 0 hts (lw_V q880 q881 q882 q102 q883) rfl rfl rfl ⟨rfl, dd_J11_isLatin1⟩ ⟨Nat.le_of_ble_eq_true rfl, Nat.le_of_ble_eq_true rfl⟩) (z_preV hC hZ hM0 zc30) rfl rfl hl.1 rfl (lv_room (Nat.zero_le _)) dJ11_charAt_1 ⟨hk, hn⟩) (fun r10 M H locs hw1 hZ => ?_) (fun q M H locs ci fs E T9 N9 hw hZ hc1 hM1 hb1 => False.elim hw)
  replace hw := hw1
  clear hw1
  refine W.cs (cells' := cells) (slots' := slots) rfl rfl ?_
  refine lv_if_eq (tgt := 16) hx hb dJ11_charAt_4 (by decide) (fun c18 => ?_) (fun c18 => ?_)
  · replace hw := hw.1 c18
    refine lv_aload_n hx hb dJ11_charAt_16 rfl (lv_at hl 0 rfl) ?_
    obtain ⟨fs0, g13, hM0, hx0, hw⟩ := hw
    refine z_get hC hZ hM0 zc30 0 (by decide) q2329 (fun _ h9 => h9) hx0 dJ11_charAt_17 ?_
    refine lv_iload_n hx hb dJ11_charAt_20 rfl (lv_at hl 1 rfl) ?_
    exact hw.elim
  · replace hw := hw.2 c18
    refine lv_aload_n hx hb dJ11_charAt_7 rfl (lv_at hl 0 rfl) ?_
    obtain ⟨fs0, g14, hM0, hx0, hw⟩ := hw
    refine z_get hC hZ hM0 zc30 0 (by decide) q2329 (fun _ h9 => h9) hx0 dJ11_charAt_8 ?_
    refine lv_iload_n hx hb dJ11_charAt_11 rfl (lv_at hl 1 rfl) ?_
    refine z_callI hZ (vx_runS (As := [va_rf g14, .int a0]) (rest := []) hC.fix (w_J12_charAt hlt hw) (va_cwS 2 hts (lw_S q1479 q1480 q103 q1481) rfl rfl rfl dd_J12_charAt ⟨Nat.le_of_ble_eq_true rfl, Nat.le_of_ble_eq_true rfl⟩) (z_preS hC hZ) rfl rfl hl.1 rfl (lv_room (Nat.zero_le _)) dJ11_charAt_12 ⟨hk, hn⟩) (fun r15 M H locs hw1 hZ => ?_) (fun q M H locs ci fs E T9 N9 hw hZ hc1 hM1 hb1 => False.elim hw)
    replace hw := hw1
    clear hw1
    refine W.cs (cells' := cells) (slots' := slots) rfl rfl ?_
    exact z_zret hG hZ hk hn hw.1 hw.2 dJ11_charAt_15
abbrev rm_J11_coder : Room := { frames := 1, cells := 0, slots := 0, locals := 64 }
def wp_J11_coder_L14 (D : zD) (post : Int32 → zM → Prop) (o : Nat) (y0 : Int32) (M : zM) : Prop :=
    (narrow .byte (.int y0) = .int y0 ∧ post y0 M)
set_option maxHeartbeats 4000000 in
set_option maxRecDepth 100000 in
theorem wk_J11_coder_L14 {p : Program} {l : Launch} {e : Env} {s : State} {m : MethodId} {args : Array Value} {below : List Frame} {meth : Method} {c : Code} {D : zD} {post : Int32 → zM → Prop} {o : Nat} (hG : zGx p l s m args meth c cJ11_coder 1 "java/lang/String" D (some .byte) "coder" []) : ∀ {H : Heap} {locs : List Loc} {cells slots : Nat} {ls : Array Slot} (y0 : Int32) (M : zM), cells ≤ 0 → slots ≤ 0 → zS D M H locs → lv_has ls 1 [] → wp_J11_coder_L14 D post o y0 M → W p l e rm_J11_coder s m args below meth c H locs cells slots (vx_MQ below (zQ D zI post) (zX D (fun _ _ => False)) args s 0 0 (zA D)) (F0 m 14 ls [.int y0]) := by
  have hC := hG.1
  have hx := hC.x
  have hb := hC.b
  have hown := hC.o
  have hts := hC.ts
  have hlt := hG.2.2.2.2.2
  intro H locs cells slots ls y0 M hk hn hZ hl hw
  exact z_zret hG hZ hk hn hw.1 hw.2 dJ11_coder_14
def wp_J11_coder (D : zD) (post : Int32 → zM → Prop) (o : Nat) (M : zM) : Prop :=
    (((1 : Int32) = 0 → wp_J11_coder_L14 D post o (1 : Int32) M) ∧ (¬ (1 : Int32) = 0 → (zgI M o 30 1 fun g1 => wp_J11_coder_L14 D post o g1 M)))
set_option maxHeartbeats 4000000 in
set_option maxRecDepth 100000 in
theorem w_J11_coder {l : Launch} {D : zD} {post : Int32 → zM → Prop} (hlt : l.stackTraces = false) {o : Nat} {M : zM} (hw : wp_J11_coder D post o M) : zMet l D yJ11_coder (ws_ yJ11_coder cJ11_coder 1 (some .byte)) rm_J11_coder 0 0 [.ref o] M zI post (fun _ _ => False) := by
  unfold wp_J11_coder at hw
  have hlv : lv_args 0 [.ref o] = [(0, .ref o)] := (zargs1 rfl rfl)
  refine z_ofW hlt (by decide) (Nat.le_trans (zsl1 rfl (Nat.le_refl 0 : (lg_sl []).length ≤ 0)) (Nat.le_of_ble_eq_true rfl)) hlv ?_
  intro p e s m args below meth c ls hG hZ hl
  have hC := hG.1
  have hx := hC.x
  have hb := hC.b
  have hown := hC.o
  have hts := hC.ts
  have hlt := hG.2.2.2.2.2
  obtain ⟨cells, hce⟩ : ∃ z : Nat, z = 0 := ⟨0, rfl⟩
  obtain ⟨slots, hsl⟩ : ∃ z : Nat, z = 0 := ⟨0, rfl⟩
  refine W.cs (cells' := cells) (slots' := slots) hce.symm hsl.symm ?_
  have hk : cells ≤ 0 := Nat.le_of_eq hce
  have hn : slots ≤ 0 := Nat.le_of_eq hsl
  clear hce hsl
  refine z_gets hC hZ hC.K.2.2.2.2.2.1.2.2 q884 (fun _ h9 => h9) dJ11_coder_0 ?_
  refine lv_if_eq (tgt := 13) hx hb dJ11_coder_3 (by decide) (fun c4 => ?_) (fun c4 => ?_)
  · replace hw := hw.1 c4
    refine lv_iconst (v := 1) hx hb dJ11_coder_13 (by decide) ?_
    exact wk_J11_coder_L14 hG _ _ hk hn hZ (lv_sub hl [] rfl) hw
  · replace hw := hw.2 c4
    refine lv_aload_n hx hb dJ11_coder_6 rfl (lv_at hl 0 rfl) ?_
    obtain ⟨fs0, g3, hM0, hx0, hw⟩ := hw
    refine z_get hC hZ hM0 zc30 1 (by decide) q2328 (fun _ h9 => h9) hx0 dJ11_coder_7 ?_
    refine lv_goto (tgt := 14) hx hb dJ11_coder_10 (by decide) ?_
    exact wk_J11_coder_L14 hG _ _ hk hn hZ (lv_sub hl [] rfl) hw
abbrev rm_J11_length : Room := { frames := 2, cells := 0, slots := 0, locals := 84 }
def wp_J11_length (D : zD) (post : Int32 → zM → Prop) (o : Nat) (M : zM) : Prop :=
    (zgR M o 30 0 fun g1 => ((zd g1 fun b2 => zlen M b2 fun n3 => ((zis M o [30] ∧ wp_J11_coder D (fun r4 M => post (n3 >>> (r4 &&& 31)) M) o M)))))
set_option maxHeartbeats 4000000 in
set_option maxRecDepth 100000 in
theorem w_J11_length {l : Launch} {D : zD} {post : Int32 → zM → Prop} (hlt : l.stackTraces = false) {o : Nat} {M : zM} (hw : wp_J11_length D post o M) : zMet l D yJ11_length (ws_ yJ11_length cJ11_length 1 (some .int)) rm_J11_length 0 0 [.ref o] M zI post (fun _ _ => False) := by
  unfold wp_J11_length at hw
  have hlv : lv_args 0 [.ref o] = [(0, .ref o)] := (zargs1 rfl rfl)
  refine z_ofW hlt (by decide) (Nat.le_trans (zsl1 rfl (Nat.le_refl 0 : (lg_sl []).length ≤ 0)) (Nat.le_of_ble_eq_true rfl)) hlv ?_
  intro p e s m args below meth c ls hG hZ hl
  have hC := hG.1
  have hx := hC.x
  have hb := hC.b
  have hown := hC.o
  have hts := hC.ts
  have hlt := hG.2.2.2.2.2
  obtain ⟨cells, hce⟩ : ∃ z : Nat, z = 0 := ⟨0, rfl⟩
  obtain ⟨slots, hsl⟩ : ∃ z : Nat, z = 0 := ⟨0, rfl⟩
  refine W.cs (cells' := cells) (slots' := slots) hce.symm hsl.symm ?_
  have hk : cells ≤ 0 := Nat.le_of_eq hce
  have hn : slots ≤ 0 := Nat.le_of_eq hsl
  clear hce hsl
  refine lv_aload_n hx hb dJ11_length_0 rfl (lv_at hl 0 rfl) ?_
  obtain ⟨fs0, g7, hM0, hx0, hw⟩ := hw
  refine z_get hC hZ hM0 zc30 0 (by decide) q2329 (fun _ h9 => h9) hx0 dJ11_length_1 ?_
  obtain ⟨b8, hr0, hw⟩ := hw
  subst hr0
  obtain ⟨y0, hM0, hy0, hw⟩ := hw
  refine z_alen hC hZ hM0 hy0 dJ11_length_4 ?_
  generalize Int32.ofNat y0.2.1 = n9 at hw ⊢
  refine lv_aload_n hx hb dJ11_length_5 rfl (lv_at hl 0 rfl) ?_
  obtain ⟨⟨ci0, fs0, hci0, hM0⟩, hw⟩ := hw
  obtain rfl : ci0 = 30 := List.mem_singleton.mp hci0
  refine z_callI hZ (vx_runV (As := []) (rest := [.int n9]) hC.fix (w_J11_coder hlt hw) (cwV 0 hts (lw_V q890 q891 q892 q102 q893) rfl rfl rfl ⟨rfl, dd_J11_coder⟩ ⟨Nat.le_of_ble_eq_true rfl, Nat.le_of_ble_eq_true rfl⟩) (z_preV hC hZ hM0 zc30) rfl rfl hl.1 rfl (lv_room (Nat.le_trans (zrm1 rfl zrm0) (Nat.le_of_ble_eq_true rfl))) dJ11_length_6 ⟨hk, hn⟩) (fun r10 M H locs hw1 hZ => ?_) (fun q M H locs ci fs E T9 N9 hw hZ hc1 hM1 hb1 => False.elim hw)
  replace hw := hw1
  clear hw1
  refine W.cs (cells' := cells) (slots' := slots) rfl rfl ?_
  refine lv_ishr hx hb dJ11_length_9 ?_
  exact z_iret hG hZ hk hn hw dJ11_length_10
abbrev rm_J12_canEncode : Room := { frames := 1, cells := 0, slots := 0, locals := 64 }
def wp_J12_canEncode_L16 (D : zD) (post : Int32 → zM → Prop) (y0 : Int32) (M : zM) : Prop :=
    (narrow .boolean (.int y0) = .int y0 ∧ post y0 M)
set_option maxHeartbeats 4000000 in
set_option maxRecDepth 100000 in
theorem wk_J12_canEncode_L16 {p : Program} {l : Launch} {e : Env} {s : State} {m : MethodId} {args : Array Value} {below : List Frame} {meth : Method} {c : Code} {D : zD} {post : Int32 → zM → Prop} (hG : zGx p l s m args meth c cJ12_canEncode 1 "java/lang/StringLatin1" D (some .boolean) "canEncode" []) : ∀ {H : Heap} {locs : List Loc} {cells slots : Nat} {ls : Array Slot} (y0 : Int32) (M : zM), cells ≤ 0 → slots ≤ 0 → zS D M H locs → lv_has ls 1 [] → wp_J12_canEncode_L16 D post y0 M → W p l e rm_J12_canEncode s m args below meth c H locs cells slots (vx_MQ below (zQ D zI post) (zX D (fun _ _ => False)) args s 0 0 (zA D)) (F0 m 16 ls [.int y0]) := by
  have hC := hG.1
  have hx := hC.x
  have hb := hC.b
  have hown := hC.o
  have hts := hC.ts
  have hlt := hG.2.2.2.2.2
  intro H locs cells slots ls y0 M hk hn hZ hl hw
  exact z_zret hG hZ hk hn hw.1 hw.2 dJ12_canEncode_16
def wp_J12_canEncode_L15 (D : zD) (post : Int32 → zM → Prop) (M : zM) : Prop :=
    wp_J12_canEncode_L16 D post (0 : Int32) M
set_option maxHeartbeats 4000000 in
set_option maxRecDepth 100000 in
theorem wk_J12_canEncode_L15 {p : Program} {l : Launch} {e : Env} {s : State} {m : MethodId} {args : Array Value} {below : List Frame} {meth : Method} {c : Code} {D : zD} {post : Int32 → zM → Prop} (hG : zGx p l s m args meth c cJ12_canEncode 1 "java/lang/StringLatin1" D (some .boolean) "canEncode" []) : ∀ {H : Heap} {locs : List Loc} {cells slots : Nat} {ls : Array Slot} (M : zM), cells ≤ 0 → slots ≤ 0 → zS D M H locs → lv_has ls 1 [] → wp_J12_canEncode_L15 D post M → W p l e rm_J12_canEncode s m args below meth c H locs cells slots (vx_MQ below (zQ D zI post) (zX D (fun _ _ => False)) args s 0 0 (zA D)) (F0 m 15 ls []) := by
  have hC := hG.1
  have hx := hC.x
  have hb := hC.b
  have hown := hC.o
  have hts := hC.ts
  have hlt := hG.2.2.2.2.2
  intro H locs cells slots ls M hk hn hZ hl hw
  refine lv_iconst (v := 0) hx hb dJ12_canEncode_15 (by decide) ?_
  exact wk_J12_canEncode_L16 hG _ _ hk hn hZ (lv_sub hl [] rfl) hw
def wp_J12_canEncode (D : zD) (post : Int32 → zM → Prop) (a0 : Int32) (M : zM) : Prop :=
    ((a0 < 0 → wp_J12_canEncode_L15 D post M) ∧ (¬ a0 < 0 → (((255 : Int32) < a0 → wp_J12_canEncode_L15 D post M) ∧ (¬ (255 : Int32) < a0 → wp_J12_canEncode_L16 D post (1 : Int32) M))))
set_option maxHeartbeats 4000000 in
set_option maxRecDepth 100000 in
theorem w_J12_canEncode {l : Launch} {D : zD} {post : Int32 → zM → Prop} (hlt : l.stackTraces = false) {a0 : Int32} {M : zM} (hw : wp_J12_canEncode D post a0 M) : zMet l D yJ12_canEncode (ws_ yJ12_canEncode cJ12_canEncode 1 (some .boolean)) rm_J12_canEncode 0 0 [.int a0] M zI post (fun _ _ => False) := by
  unfold wp_J12_canEncode at hw
  have hlv : lv_args 0 [.int a0] = [(0, .int a0)] := (zargs1 rfl rfl)
  refine z_ofW hlt (by decide) (Nat.le_trans (zsl1 rfl (Nat.le_refl 0 : (lg_sl []).length ≤ 0)) (Nat.le_of_ble_eq_true rfl)) hlv ?_
  intro p e s m args below meth c ls hG hZ hl
  have hC := hG.1
  have hx := hC.x
  have hb := hC.b
  have hown := hC.o
  have hts := hC.ts
  have hlt := hG.2.2.2.2.2
  obtain ⟨cells, hce⟩ : ∃ z : Nat, z = 0 := ⟨0, rfl⟩
  obtain ⟨slots, hsl⟩ : ∃ z : Nat, z = 0 := ⟨0, rfl⟩
  refine W.cs (cells' := cells) (slots' := slots) hce.symm hsl.symm ?_
  have hk : cells ≤ 0 := Nat.le_of_eq hce
  have hn : slots ≤ 0 := Nat.le_of_eq hsl
  clear hce hsl
  refine lv_iload_n hx hb dJ12_canEncode_0 rfl (lv_at hl 0 rfl) ?_
  refine lv_if_lt (tgt := 15) hx hb dJ12_canEncode_1 (by decide) (fun c4 => ?_) (fun c4 => ?_)
  · replace hw := hw.1 c4
    exact wk_J12_canEncode_L15 hG _ hk hn hZ (lv_sub hl [] rfl) hw
  · replace hw := hw.2 c4
    refine lv_iload_n hx hb dJ12_canEncode_4 rfl (lv_at hl 0 rfl) ?_
    refine lv_sipush (v := 255) hx hb dJ12_canEncode_5 (by decide) ?_
    refine lv_icmp_gt (tgt := 15) hx hb dJ12_canEncode_8 (by decide) (fun c3 => ?_) (fun c3 => ?_)
    · replace hw := hw.1 c3
      exact wk_J12_canEncode_L15 hG _ hk hn hZ (lv_sub hl [] rfl) hw
    · replace hw := hw.2 c3
      refine lv_iconst (v := 1) hx hb dJ12_canEncode_11 (by decide) ?_
      refine lv_goto (tgt := 16) hx hb dJ12_canEncode_12 (by decide) ?_
      exact wk_J12_canEncode_L16 hG _ _ hk hn hZ (lv_sub hl [] rfl) hw
abbrev rm_J12_indexOfChar : Room := { frames := 1, cells := 0, slots := 0, locals := 64 }
def wp_J12_indexOfChar_L7 (D : zD) (post : Int32 → zM → Prop) : Nat → Option Nat → Int32 → Int32 → Int32 → zM → Prop
  | 0 => fun _ _ _ _ _ => False
  | f + 1 => fun x0 x3 x4 x5 M =>
    ((x3 ≤ x5 → post (-1 : Int32) M) ∧ (¬ x3 ≤ x5 → ((zd x0 fun b1 => zaI M b1 1 x5 fun v2 => ((¬ v2 = x4 → wp_J12_indexOfChar_L7 D post f (some b1) x3 x4 (x5 + 1) M) ∧ (v2 = x4 → post x5 M))))))
set_option maxHeartbeats 4000000 in
set_option maxRecDepth 100000 in
theorem wk_J12_indexOfChar_L7 {p : Program} {l : Launch} {e : Env} {s : State} {m : MethodId} {args : Array Value} {below : List Frame} {meth : Method} {c : Code} {D : zD} {post : Int32 → zM → Prop} (hG : zGx p l s m args meth c cJ12_indexOfChar 6 "java/lang/StringLatin1" D (some .int) "indexOfChar" []) : ∀ (f : Nat), ∀ {H : Heap} {locs : List Loc} {cells slots : Nat} {ls : Array Slot} (x0 : Option Nat) (x3 : Int32) (x4 : Int32) (x5 : Int32) (M : zM), cells ≤ 0 → slots ≤ 0 → zS D M H locs → lv_has ls 6 [(0, va_rf x0), (3, .int x3), (4, .int x4), (5, .int x5)] → wp_J12_indexOfChar_L7 D post f x0 x3 x4 x5 M → W p l e rm_J12_indexOfChar s m args below meth c H locs cells slots (vx_MQ below (zQ D zI post) (zX D (fun _ _ => False)) args s 0 0 (zA D)) (F0 m 7 ls []) := by
  have hC := hG.1
  have hx := hC.x
  have hb := hC.b
  have hown := hC.o
  have hts := hC.ts
  have hlt := hG.2.2.2.2.2
  intro f
  induction f with
  | zero =>
    intro H locs cells slots ls x0 x3 x4 x5 M hk hn hZ hl hw
    exact absurd hw (fun h => h)
  | succ f ih =>
    intro H locs cells slots ls x0 x3 x4 x5 M hk hn hZ hl hw
    refine lv_iload hx hb dJ12_indexOfChar_7 (lv_at hl 3 rfl) ?_
    refine lv_iload_n hx hb dJ12_indexOfChar_9 rfl (lv_at hl 1 rfl) ?_
    refine lv_icmp_ge (tgt := 31) hx hb dJ12_indexOfChar_10 (by decide) (fun c8 => ?_) (fun c8 => ?_)
    · replace hw := hw.1 c8
      refine lv_iconst (v := (-1)) hx hb dJ12_indexOfChar_31 (by decide) ?_
      exact z_iret hG hZ hk hn hw dJ12_indexOfChar_32
    · replace hw := hw.2 c8
      refine z_aload_n hC dJ12_indexOfChar_13 rfl (lv_at hl 0 rfl) ?_
      refine lv_iload hx hb dJ12_indexOfChar_14 (lv_at hl 3 rfl) ?_
      obtain ⟨b5, hr0, hw⟩ := hw
      subst hr0
      obtain ⟨n0, f0, hM0, hi0, hw⟩ := hw
      refine z_bald hC hZ hM0 hi0 dJ12_indexOfChar_16 ?_
      generalize f0 _ = v6 at hw ⊢
      refine lv_iload hx hb dJ12_indexOfChar_17 (lv_at hl 2 rfl) ?_
      refine lv_icmp_ne (tgt := 25) hx hb dJ12_indexOfChar_19 (by decide) (fun c7 => ?_) (fun c7 => ?_)
      · replace hw := hw.1 c7
        refine lv_iinc (v := (x5 + 1)) (lv' := [(5, .int (x5 + 1)), (0, .ref b5), (3, .int x3), (4, .int x4)]) hx hb dJ12_indexOfChar_25 hl (k := 3) rfl rfl (by decide) rfl (fun ls hl1 => ?_)
        replace hl := hl1
        clear hl1
        refine lv_goto (tgt := 7) hx hb dJ12_indexOfChar_28 (by decide) ?_
        exact ih _ _ _ _ _ hk hn hZ (lv_sub hl [1, 2, 3, 0] rfl) hw
      · replace hw := hw.2 c7
        refine lv_iload hx hb dJ12_indexOfChar_22 (lv_at hl 3 rfl) ?_
        exact z_iret hG hZ hk hn hw dJ12_indexOfChar_24
def wp_J12_indexOfChar (D : zD) (post : Int32 → zM → Prop) (a0 : Option Nat) (a1 : Int32) (a2 : Int32) (a3 : Int32) (M : zM) : Prop :=
    (∃ f, wp_J12_indexOfChar_L7 D post f a0 a3 (a1.toInt8.toInt32) a2 M)
set_option maxHeartbeats 4000000 in
set_option maxRecDepth 100000 in
theorem w_J12_indexOfChar {l : Launch} {D : zD} {post : Int32 → zM → Prop} (hlt : l.stackTraces = false) {a0 : Option Nat} {a1 : Int32} {a2 : Int32} {a3 : Int32} {M : zM} (hw : wp_J12_indexOfChar D post a0 a1 a2 a3 M) : zMet l D yJ12_indexOfChar (ws_ yJ12_indexOfChar cJ12_indexOfChar 6 (some .int)) rm_J12_indexOfChar 0 0 [va_rf a0, .int a1, .int a2, .int a3] M zI post (fun _ _ => False) := by
  unfold wp_J12_indexOfChar at hw
  have hlv : lv_args 0 [va_rf a0, .int a1, .int a2, .int a3] = [(0, va_rf a0), (1, .int a1), (2, .int a2), (3, .int a3)] := (zargs1 (zcat _) (zargs1 rfl (zargs1 rfl (zargs1 rfl rfl))))
  refine z_ofW hlt (by decide) (Nat.le_trans (zsl1 (zcat _) (zsl1 rfl (zsl1 rfl (zsl1 rfl (Nat.le_refl 0 : (lg_sl []).length ≤ 0))))) (Nat.le_of_ble_eq_true rfl)) hlv ?_
  intro p e s m args below meth c ls hG hZ hl
  have hC := hG.1
  have hx := hC.x
  have hb := hC.b
  have hown := hC.o
  have hts := hC.ts
  have hlt := hG.2.2.2.2.2
  obtain ⟨cells, hce⟩ : ∃ z : Nat, z = 0 := ⟨0, rfl⟩
  obtain ⟨slots, hsl⟩ : ∃ z : Nat, z = 0 := ⟨0, rfl⟩
  refine W.cs (cells' := cells) (slots' := slots) hce.symm hsl.symm ?_
  have hk : cells ≤ 0 := Nat.le_of_eq hce
  have hn : slots ≤ 0 := Nat.le_of_eq hsl
  clear hce hsl
  refine lv_iload_n hx hb dJ12_indexOfChar_0 rfl (lv_at hl 1 rfl) ?_
  refine lv_i2b hx hb dJ12_indexOfChar_1 rfl ?_
  refine lv_istore (i := 4) (lv' := [(4, .int (a1.toInt8.toInt32)), (0, va_rf a0), (1, .int a1), (2, .int a2), (3, .int a3)]) hx hb dJ12_indexOfChar_2 hl (by decide) rfl (fun ls hl1 => ?_)
  replace hl := hl1
  clear hl1
  refine lv_iload_n hx hb dJ12_indexOfChar_4 rfl (lv_at hl 3 rfl) ?_
  refine lv_istore (i := 5) (lv' := [(5, .int a2), (4, .int (a1.toInt8.toInt32)), (0, va_rf a0), (1, .int a1), (2, .int a2), (3, .int a3)]) hx hb dJ12_indexOfChar_5 hl (by decide) rfl (fun ls hl1 => ?_)
  replace hl := hl1
  clear hl1
  obtain ⟨f1, hw⟩ := hw
  exact wk_J12_indexOfChar_L7 hG f1 _ _ _ _ _ hk hn hZ (lv_sub hl [2, 5, 1, 0] rfl) hw
abbrev rm_J12_indexOf : Room := { frames := 2, cells := 0, slots := 0, locals := 89 }
def wp_J12_indexOf (D : zD) (post : Int32 → zM → Prop) (a0 : Option Nat) (a1 : Int32) (a2 : Int32) (a3 : Int32) (M : zM) : Prop :=
    (wp_J12_canEncode D (fun r1 M => ((¬ r1 = 0 → (wp_J0_max D (fun r4 M => ((zd a0 fun b7 => zlen M b7 fun n8 => (wp_J0_min D (fun r9 M => ((r4 < r9 → (wp_J12_indexOfChar D (fun r12 M => post r12 M) (some b7) a1 r4 r9 M)) ∧ (¬ r4 < r9 → post (-1 : Int32) M))) a3 n8 M)))) a2 (0 : Int32) M)) ∧ (r1 = 0 → post (-1 : Int32) M))) a1 M)
set_option maxHeartbeats 4000000 in
set_option maxRecDepth 100000 in
theorem w_J12_indexOf {l : Launch} {D : zD} {post : Int32 → zM → Prop} (hlt : l.stackTraces = false) {a0 : Option Nat} {a1 : Int32} {a2 : Int32} {a3 : Int32} {M : zM} (hw : wp_J12_indexOf D post a0 a1 a2 a3 M) : zMet l D yJ12_indexOf (ws_ yJ12_indexOf cJ12_indexOf 4 (some .int)) rm_J12_indexOf 0 0 [va_rf a0, .int a1, .int a2, .int a3] M zI post (fun _ _ => False) := by
  unfold wp_J12_indexOf at hw
  have hlv : lv_args 0 [va_rf a0, .int a1, .int a2, .int a3] = [(0, va_rf a0), (1, .int a1), (2, .int a2), (3, .int a3)] := (zargs1 (zcat _) (zargs1 rfl (zargs1 rfl (zargs1 rfl rfl))))
  refine z_ofW hlt (by decide) (Nat.le_trans (zsl1 (zcat _) (zsl1 rfl (zsl1 rfl (zsl1 rfl (Nat.le_refl 0 : (lg_sl []).length ≤ 0))))) (Nat.le_of_ble_eq_true rfl)) hlv ?_
  intro p e s m args below meth c ls hG hZ hl
  have hC := hG.1
  have hx := hC.x
  have hb := hC.b
  have hown := hC.o
  have hts := hC.ts
  have hlt := hG.2.2.2.2.2
  obtain ⟨cells, hce⟩ : ∃ z : Nat, z = 0 := ⟨0, rfl⟩
  obtain ⟨slots, hsl⟩ : ∃ z : Nat, z = 0 := ⟨0, rfl⟩
  refine W.cs (cells' := cells) (slots' := slots) hce.symm hsl.symm ?_
  have hk : cells ≤ 0 := Nat.le_of_eq hce
  have hn : slots ≤ 0 := Nat.le_of_eq hsl
  clear hce hsl
  refine lv_iload_n hx hb dJ12_indexOf_0 rfl (lv_at hl 1 rfl) ?_
  refine z_callI hZ (vx_runS (As := [.int a1]) (rest := []) hC.fix (w_J12_canEncode hlt hw) (va_cwS 1 hts (lw_S q897 q898 q103 q899) rfl rfl rfl dd_J12_canEncode ⟨Nat.le_of_ble_eq_true rfl, Nat.le_of_ble_eq_true rfl⟩) (z_preS hC hZ) rfl rfl hl.1 rfl (lv_room (Nat.zero_le _)) dJ12_indexOf_1 ⟨hk, hn⟩) (fun r17 M H locs hw1 hZ => ?_) (fun q M H locs ci fs E T9 N9 hw hZ hc1 hM1 hb1 => False.elim hw)
  replace hw := hw1
  clear hw1
  refine W.cs (cells' := cells) (slots' := slots) rfl rfl ?_
  refine lv_if_ne (tgt := 9) hx hb dJ12_indexOf_4 (by decide) (fun c32 => ?_) (fun c32 => ?_)
  · replace hw := hw.1 c32
    refine lv_iload_n hx hb dJ12_indexOf_9 rfl (lv_at hl 2 rfl) ?_
    refine lv_iconst (v := 0) hx hb dJ12_indexOf_10 (by decide) ?_
    refine z_callI hZ (vx_runS (As := [.int a2, .int (0 : Int32)]) (rest := []) hC.fix (w_J0_max hlt hw) (va_cwS 2 hts (lw_S q900 q232 q69 q233) rfl rfl rfl dd_J0_max ⟨Nat.le_of_ble_eq_true rfl, Nat.le_of_ble_eq_true rfl⟩) (z_preS hC hZ) rfl rfl hl.1 rfl (lv_room (Nat.zero_le _)) dJ12_indexOf_11 ⟨hk, hn⟩) (fun r20 M H locs hw1 hZ => ?_) (fun q M H locs ci fs E T9 N9 hw hZ hc1 hM1 hb1 => False.elim hw)
    replace hw := hw1
    clear hw1
    refine W.cs (cells' := cells) (slots' := slots) rfl rfl ?_
    refine lv_istore_n (i := 2) (lv' := [(2, .int r20), (0, va_rf a0), (1, .int a1), (3, .int a3)]) hx hb dJ12_indexOf_14 rfl hl (by decide) rfl (fun ls hl1 => ?_)
    replace hl := hl1
    clear hl1
    refine lv_iload_n hx hb dJ12_indexOf_15 rfl (lv_at hl 3 rfl) ?_
    refine z_aload_n hC dJ12_indexOf_16 rfl (lv_at hl 1 rfl) ?_
    obtain ⟨b23, hr0, hw⟩ := hw
    subst hr0
    obtain ⟨y0, hM0, hy0, hw⟩ := hw
    refine z_alen hC hZ hM0 hy0 dJ12_indexOf_17 ?_
    generalize Int32.ofNat y0.2.1 = n24 at hw ⊢
    refine z_callI hZ (vx_runS (As := [.int a3, .int n24]) (rest := []) hC.fix (w_J0_min hlt hw) (va_cwS 2 hts (lw_S q901 q146 q69 q147) rfl rfl rfl dd_J0_min ⟨Nat.le_of_ble_eq_true rfl, Nat.le_of_ble_eq_true rfl⟩) (z_preS hC hZ) rfl rfl hl.1 rfl (lv_room (Nat.zero_le _)) dJ12_indexOf_18 ⟨hk, hn⟩) (fun r25 M H locs hw1 hZ => ?_) (fun q M H locs ci fs E T9 N9 hw hZ hc1 hM1 hb1 => False.elim hw)
    replace hw := hw1
    clear hw1
    refine W.cs (cells' := cells) (slots' := slots) rfl rfl ?_
    refine lv_istore_n (i := 3) (lv' := [(3, .int r25), (2, .int r20), (0, .ref b23), (1, .int a1)]) hx hb dJ12_indexOf_21 rfl hl (by decide) rfl (fun ls hl1 => ?_)
    replace hl := hl1
    clear hl1
    refine lv_iload_n hx hb dJ12_indexOf_22 rfl (lv_at hl 1 rfl) ?_
    refine lv_iload_n hx hb dJ12_indexOf_23 rfl (lv_at hl 0 rfl) ?_
    refine lv_icmp_lt (tgt := 29) hx hb dJ12_indexOf_24 (by decide) (fun c31 => ?_) (fun c31 => ?_)
    · replace hw := hw.1 c31
      refine lv_aload_n hx hb dJ12_indexOf_29 rfl (lv_at hl 2 rfl) ?_
      refine lv_iload_n hx hb dJ12_indexOf_30 rfl (lv_at hl 3 rfl) ?_
      refine lv_iload_n hx hb dJ12_indexOf_31 rfl (lv_at hl 1 rfl) ?_
      refine lv_iload_n hx hb dJ12_indexOf_32 rfl (lv_at hl 0 rfl) ?_
      refine z_callI hZ (vx_runS (As := [.ref b23, .int a1, .int r20, .int r25]) (rest := []) hC.fix (w_J12_indexOfChar hlt hw) (va_cwS 4 hts (lw_S q902 q903 q103 q904) rfl rfl rfl dd_J12_indexOfChar ⟨Nat.le_of_ble_eq_true rfl, Nat.le_of_ble_eq_true rfl⟩) (z_preS hC hZ) rfl rfl hl.1 rfl (lv_room (Nat.zero_le _)) dJ12_indexOf_33 ⟨hk, hn⟩) (fun r28 M H locs hw1 hZ => ?_) (fun q M H locs ci fs E T9 N9 hw hZ hc1 hM1 hb1 => False.elim hw)
      replace hw := hw1
      clear hw1
      refine W.cs (cells' := cells) (slots' := slots) rfl rfl ?_
      exact z_iret hG hZ hk hn hw dJ12_indexOf_36
    · replace hw := hw.2 c31
      refine lv_iconst (v := (-1)) hx hb dJ12_indexOf_27 (by decide) ?_
      exact z_iret hG hZ hk hn hw dJ12_indexOf_28
  · replace hw := hw.2 c32
    refine lv_iconst (v := (-1)) hx hb dJ12_indexOf_7 (by decide) ?_
    exact z_iret hG hZ hk hn hw dJ12_indexOf_8
abbrev rm_J11_indexOf_2 : Room := { frames := 3, cells := 0, slots := 0, locals := 112 }
def wp_J11_indexOf_2 (D : zD) (post : Int32 → zM → Prop) (o : Nat) (a0 : Int32) (a1 : Int32) (M : zM) : Prop :=
    ((zis M o [30] ∧ wp_J11_isLatin1 D (fun r1 M => ((r1 = 0 → (zgR M o 30 0 fun g4 => ((zis M o [30] ∧ wp_J11_length D (fun r5 M => False) o M)))) ∧ (¬ r1 = 0 → (zgR M o 30 0 fun g8 => ((zis M o [30] ∧ wp_J11_length D (fun r9 M => (wp_J12_indexOf D (fun r12 M => post r12 M) g8 a0 a1 r9 M)) o M)))))) o M))
set_option maxHeartbeats 4000000 in
set_option maxRecDepth 100000 in
theorem w_J11_indexOf_2 {l : Launch} {D : zD} {post : Int32 → zM → Prop} (hlt : l.stackTraces = false) {o : Nat} {a0 : Int32} {a1 : Int32} {M : zM} (hw : wp_J11_indexOf_2 D post o a0 a1 M) : zMet l D yJ11_indexOf_2 (ws_ yJ11_indexOf_2 cJ11_indexOf_2 3 (some .int)) rm_J11_indexOf_2 0 0 [.ref o, .int a0, .int a1] M zI post (fun _ _ => False) := by
  unfold wp_J11_indexOf_2 at hw
  have hlv : lv_args 0 [.ref o, .int a0, .int a1] = [(0, .ref o), (1, .int a0), (2, .int a1)] := (zargs1 rfl (zargs1 rfl (zargs1 rfl rfl)))
  refine z_ofW hlt (by decide) (Nat.le_trans (zsl1 rfl (zsl1 rfl (zsl1 rfl (Nat.le_refl 0 : (lg_sl []).length ≤ 0)))) (Nat.le_of_ble_eq_true rfl)) hlv ?_
  intro p e s m args below meth c ls hG hZ hl
  have hC := hG.1
  have hx := hC.x
  have hb := hC.b
  have hown := hC.o
  have hts := hC.ts
  have hlt := hG.2.2.2.2.2
  obtain ⟨cells, hce⟩ : ∃ z : Nat, z = 0 := ⟨0, rfl⟩
  obtain ⟨slots, hsl⟩ : ∃ z : Nat, z = 0 := ⟨0, rfl⟩
  refine W.cs (cells' := cells) (slots' := slots) hce.symm hsl.symm ?_
  have hk : cells ≤ 0 := Nat.le_of_eq hce
  have hn : slots ≤ 0 := Nat.le_of_eq hsl
  clear hce hsl
  refine lv_aload_n hx hb dJ11_indexOf_2_0 rfl (lv_at hl 0 rfl) ?_
  obtain ⟨⟨ci0, fs0, hci0, hM0⟩, hw⟩ := hw
  obtain rfl : ci0 = 30 := List.mem_singleton.mp hci0
  refine z_callI hZ (vx_runV (As := []) (rest := []) hC.fix (w_J11_isLatin1 hlt hw) (cwV 0 hts (lw_V q880 q881 q882 q102 q883) rfl rfl rfl ⟨rfl, dd_J11_isLatin1⟩ ⟨Nat.le_of_ble_eq_true rfl, Nat.le_of_ble_eq_true rfl⟩) (z_preV hC hZ hM0 zc30) rfl rfl hl.1 rfl (lv_room (Nat.zero_le _)) dJ11_indexOf_2_1 ⟨hk, hn⟩) (fun r16 M H locs hw1 hZ => ?_) (fun q M H locs ci fs E T9 N9 hw hZ hc1 hM1 hb1 => False.elim hw)
  replace hw := hw1
  clear hw1
  refine W.cs (cells' := cells) (slots' := slots) rfl rfl ?_
  refine lv_if_eq (tgt := 23) hx hb dJ11_indexOf_2_4 (by decide) (fun c30 => ?_) (fun c30 => ?_)
  · replace hw := hw.1 c30
    refine lv_aload_n hx hb dJ11_indexOf_2_23 rfl (lv_at hl 0 rfl) ?_
    obtain ⟨fs0, g19, hM0, hx0, hw⟩ := hw
    refine z_get hC hZ hM0 zc30 0 (by decide) q2329 (fun _ h9 => h9) hx0 dJ11_indexOf_2_24 ?_
    refine lv_iload_n hx hb dJ11_indexOf_2_27 rfl (lv_at hl 1 rfl) ?_
    refine lv_iload_n hx hb dJ11_indexOf_2_28 rfl (lv_at hl 2 rfl) ?_
    refine lv_aload_n hx hb dJ11_indexOf_2_29 rfl (lv_at hl 0 rfl) ?_
    obtain ⟨⟨ci0, fs0, hci0, hM0⟩, hw⟩ := hw
    obtain rfl : ci0 = 30 := List.mem_singleton.mp hci0
    refine z_callI hZ (vx_runV (As := []) (rest := [.int a1, .int a0, va_rf g19]) hC.fix (w_J11_length hlt hw) (cwV 0 hts (lw_V q886 q887 q888 q102 q889) rfl rfl rfl ⟨rfl, dd_J11_length⟩ ⟨Nat.le_of_ble_eq_true rfl, Nat.le_of_ble_eq_true rfl⟩) (z_preV hC hZ hM0 zc30) rfl rfl hl.1 rfl (lv_room (Nat.le_trans (zrm1 rfl (zrm1 rfl (zrm1 (zcat _) zrm0))) (Nat.le_of_ble_eq_true rfl))) dJ11_indexOf_2_30 ⟨hk, hn⟩) (fun r20 M H locs hw1 hZ => ?_) (fun q M H locs ci fs E T9 N9 hw hZ hc1 hM1 hb1 => False.elim hw)
    replace hw := hw1
    clear hw1
    refine W.cs (cells' := cells) (slots' := slots) rfl rfl ?_
    exact hw.elim
  · replace hw := hw.2 c30
    refine lv_aload_n hx hb dJ11_indexOf_2_7 rfl (lv_at hl 0 rfl) ?_
    obtain ⟨fs0, g23, hM0, hx0, hw⟩ := hw
    refine z_get hC hZ hM0 zc30 0 (by decide) q2329 (fun _ h9 => h9) hx0 dJ11_indexOf_2_8 ?_
    refine lv_iload_n hx hb dJ11_indexOf_2_11 rfl (lv_at hl 1 rfl) ?_
    refine lv_iload_n hx hb dJ11_indexOf_2_12 rfl (lv_at hl 2 rfl) ?_
    refine lv_aload_n hx hb dJ11_indexOf_2_13 rfl (lv_at hl 0 rfl) ?_
    obtain ⟨⟨ci0, fs0, hci0, hM0⟩, hw⟩ := hw
    obtain rfl : ci0 = 30 := List.mem_singleton.mp hci0
    refine z_callI hZ (vx_runV (As := []) (rest := [.int a1, .int a0, va_rf g23]) hC.fix (w_J11_length hlt hw) (cwV 0 hts (lw_V q886 q887 q888 q102 q889) rfl rfl rfl ⟨rfl, dd_J11_length⟩ ⟨Nat.le_of_ble_eq_true rfl, Nat.le_of_ble_eq_true rfl⟩) (z_preV hC hZ hM0 zc30) rfl rfl hl.1 rfl (lv_room (Nat.le_trans (zrm1 rfl (zrm1 rfl (zrm1 (zcat _) zrm0))) (Nat.le_of_ble_eq_true rfl))) dJ11_indexOf_2_14 ⟨hk, hn⟩) (fun r24 M H locs hw1 hZ => ?_) (fun q M H locs ci fs E T9 N9 hw hZ hc1 hM1 hb1 => False.elim hw)
    replace hw := hw1
    clear hw1
    refine W.cs (cells' := cells) (slots' := slots) rfl rfl ?_
    refine z_callI hZ (vx_runS (As := [va_rf g23, .int a0, .int a1, .int r24]) (rest := []) hC.fix (w_J12_indexOf hlt hw) (va_cwS 4 hts (lw_S q894 q895 q103 q896) rfl rfl rfl dd_J12_indexOf ⟨Nat.le_of_ble_eq_true rfl, Nat.le_of_ble_eq_true rfl⟩) (z_preS hC hZ) rfl rfl hl.1 rfl (lv_room (Nat.zero_le _)) dJ11_indexOf_2_17 ⟨hk, hn⟩) (fun r27 M H locs hw1 hZ => ?_) (fun q M H locs ci fs E T9 N9 hw hZ hc1 hM1 hb1 => False.elim hw)
    replace hw := hw1
    clear hw1
    refine W.cs (cells' := cells) (slots' := slots) rfl rfl ?_
    refine lv_goto (tgt := 36) hx hb dJ11_indexOf_2_20 (by decide) ?_
    exact z_iret hG hZ hk hn hw dJ11_indexOf_2_36
abbrev rm_J11_indexOf : Room := { frames := 4, cells := 0, slots := 0, locals := 134 }
def wp_J11_indexOf (D : zD) (post : Int32 → zM → Prop) (o : Nat) (a0 : Int32) (M : zM) : Prop :=
    ((zis M o [30] ∧ wp_J11_indexOf_2 D (fun r1 M => post r1 M) o a0 (0 : Int32) M))
set_option maxHeartbeats 4000000 in
set_option maxRecDepth 100000 in
theorem w_J11_indexOf {l : Launch} {D : zD} {post : Int32 → zM → Prop} (hlt : l.stackTraces = false) {o : Nat} {a0 : Int32} {M : zM} (hw : wp_J11_indexOf D post o a0 M) : zMet l D yJ11_indexOf (ws_ yJ11_indexOf cJ11_indexOf 2 (some .int)) rm_J11_indexOf 0 0 [.ref o, .int a0] M zI post (fun _ _ => False) := by
  unfold wp_J11_indexOf at hw
  have hlv : lv_args 0 [.ref o, .int a0] = [(0, .ref o), (1, .int a0)] := (zargs1 rfl (zargs1 rfl rfl))
  refine z_ofW hlt (by decide) (Nat.le_trans (zsl1 rfl (zsl1 rfl (Nat.le_refl 0 : (lg_sl []).length ≤ 0))) (Nat.le_of_ble_eq_true rfl)) hlv ?_
  intro p e s m args below meth c ls hG hZ hl
  have hC := hG.1
  have hx := hC.x
  have hb := hC.b
  have hown := hC.o
  have hts := hC.ts
  have hlt := hG.2.2.2.2.2
  obtain ⟨cells, hce⟩ : ∃ z : Nat, z = 0 := ⟨0, rfl⟩
  obtain ⟨slots, hsl⟩ : ∃ z : Nat, z = 0 := ⟨0, rfl⟩
  refine W.cs (cells' := cells) (slots' := slots) hce.symm hsl.symm ?_
  have hk : cells ≤ 0 := Nat.le_of_eq hce
  have hn : slots ≤ 0 := Nat.le_of_eq hsl
  clear hce hsl
  refine lv_aload_n hx hb dJ11_indexOf_0 rfl (lv_at hl 0 rfl) ?_
  refine lv_iload_n hx hb dJ11_indexOf_1 rfl (lv_at hl 1 rfl) ?_
  refine lv_iconst (v := 0) hx hb dJ11_indexOf_2 (by decide) ?_
  obtain ⟨⟨ci0, fs0, hci0, hM0⟩, hw⟩ := hw
  obtain rfl : ci0 = 30 := List.mem_singleton.mp hci0
  refine z_callI hZ (vx_runV (As := [.int a0, .int (0 : Int32)]) (rest := []) hC.fix (w_J11_indexOf_2 hlt hw) (cwV 2 hts (lw_V q876 q877 q878 q102 q879) rfl rfl rfl ⟨rfl, dd_J11_indexOf_2⟩ ⟨Nat.le_of_ble_eq_true rfl, Nat.le_of_ble_eq_true rfl⟩) (z_preV hC hZ hM0 zc30) rfl rfl hl.1 rfl (lv_room (Nat.zero_le _)) dJ11_indexOf_3 ⟨hk, hn⟩) (fun r4 M H locs hw1 hZ => ?_) (fun q M H locs ci fs E T9 N9 hw hZ hc1 hM1 hb1 => False.elim hw)
  replace hw := hw1
  clear hw1
  refine W.cs (cells' := cells) (slots' := slots) rfl rfl ?_
  exact z_iret hG hZ hk hn hw dJ11_indexOf_6
abbrev rm_J15_checkForComodification : Room := { frames := 1, cells := 0, slots := 0, locals := 64 }
def wp_J15_checkForComodification (D : zD) (post : Unit → zM → Prop) (o : Nat) (M : zM) : Prop :=
    (zgR M o 27 3 fun g1 => ((zd g1 fun b2 => zgI M b2 26 0 fun g3 => (zgI M o 27 2 fun g4 => ((g3 = g4 → post () M) ∧ (¬ g3 = g4 → False))))))
set_option maxHeartbeats 4000000 in
set_option maxRecDepth 100000 in
theorem w_J15_checkForComodification {l : Launch} {D : zD} {post : Unit → zM → Prop} (hlt : l.stackTraces = false) {o : Nat} {M : zM} (hw : wp_J15_checkForComodification D post o M) : zMet l D yJ15_checkForComodification (ws_ yJ15_checkForComodification cJ15_checkForComodification 1 (none)) rm_J15_checkForComodification 0 0 [.ref o] M zU post (fun _ _ => False) := by
  unfold wp_J15_checkForComodification at hw
  have hlv : lv_args 0 [.ref o] = [(0, .ref o)] := (zargs1 rfl rfl)
  refine z_ofW hlt (by decide) (Nat.le_trans (zsl1 rfl (Nat.le_refl 0 : (lg_sl []).length ≤ 0)) (Nat.le_of_ble_eq_true rfl)) hlv ?_
  intro p e s m args below meth c ls hG hZ hl
  have hC := hG.1
  have hx := hC.x
  have hb := hC.b
  have hown := hC.o
  have hts := hC.ts
  have hlt := hG.2.2.2.2.2
  obtain ⟨cells, hce⟩ : ∃ z : Nat, z = 0 := ⟨0, rfl⟩
  obtain ⟨slots, hsl⟩ : ∃ z : Nat, z = 0 := ⟨0, rfl⟩
  refine W.cs (cells' := cells) (slots' := slots) hce.symm hsl.symm ?_
  have hk : cells ≤ 0 := Nat.le_of_eq hce
  have hn : slots ≤ 0 := Nat.le_of_eq hsl
  clear hce hsl
  refine lv_aload_n hx hb dJ15_checkForComodification_0 rfl (lv_at hl 0 rfl) ?_
  obtain ⟨fs0, g6, hM0, hx0, hw⟩ := hw
  refine z_get hC hZ hM0 zc27 3 (by decide) q1026 (fun _ h9 => h9) hx0 dJ15_checkForComodification_1 ?_
  obtain ⟨b7, hr0, hw⟩ := hw
  subst hr0
  obtain ⟨fs0, g8, hM0, hx0, hw⟩ := hw
  refine z_get hC hZ hM0 zc26 0 (by decide) q209 (u_same (hts _ q210)) hx0 dJ15_checkForComodification_4 ?_
  refine lv_aload_n hx hb dJ15_checkForComodification_7 rfl (lv_at hl 0 rfl) ?_
  obtain ⟨fs0, g9, hM0, hx0, hw⟩ := hw
  refine z_get hC hZ hM0 zc27 2 (by decide) q1025 (fun _ h9 => h9) hx0 dJ15_checkForComodification_8 ?_
  refine lv_icmp_eq (tgt := 22) hx hb dJ15_checkForComodification_11 (by decide) (fun c10 => ?_) (fun c10 => ?_)
  · replace hw := hw.1 c10
    exact z_vret hG hZ hk hn hw dJ15_checkForComodification_22
  · replace hw := hw.2 c10
    exact hw.elim
abbrev rm_J15_hasNext : Room := { frames := 1, cells := 0, slots := 0, locals := 64 }
def wp_J15_hasNext_L19 (D : zD) (post : Int32 → zM → Prop) (o : Nat) (y0 : Int32) (M : zM) : Prop :=
    (narrow .boolean (.int y0) = .int y0 ∧ post y0 M)
set_option maxHeartbeats 4000000 in
set_option maxRecDepth 100000 in
theorem wk_J15_hasNext_L19 {p : Program} {l : Launch} {e : Env} {s : State} {m : MethodId} {args : Array Value} {below : List Frame} {meth : Method} {c : Code} {D : zD} {post : Int32 → zM → Prop} {o : Nat} (hG : zGx p l s m args meth c cJ15_hasNext 1 "java/util/ArrayList$Itr" D (some .boolean) "hasNext" []) : ∀ {H : Heap} {locs : List Loc} {cells slots : Nat} {ls : Array Slot} (y0 : Int32) (M : zM), cells ≤ 0 → slots ≤ 0 → zS D M H locs → lv_has ls 1 [] → wp_J15_hasNext_L19 D post o y0 M → W p l e rm_J15_hasNext s m args below meth c H locs cells slots (vx_MQ below (zQ D zI post) (zX D (fun _ _ => False)) args s 0 0 (zA D)) (F0 m 19 ls [.int y0]) := by
  have hC := hG.1
  have hx := hC.x
  have hb := hC.b
  have hown := hC.o
  have hts := hC.ts
  have hlt := hG.2.2.2.2.2
  intro H locs cells slots ls y0 M hk hn hZ hl hw
  exact z_zret hG hZ hk hn hw.1 hw.2 dJ15_hasNext_19
def wp_J15_hasNext (D : zD) (post : Int32 → zM → Prop) (o : Nat) (M : zM) : Prop :=
    (zgI M o 27 0 fun g1 => (zgR M o 27 3 fun g2 => ((zd g2 fun b3 => zgI M b3 26 2 fun g4 => ((g1 = g4 → wp_J15_hasNext_L19 D post o (0 : Int32) M) ∧ (¬ g1 = g4 → wp_J15_hasNext_L19 D post o (1 : Int32) M))))))
set_option maxHeartbeats 4000000 in
set_option maxRecDepth 100000 in
theorem w_J15_hasNext {l : Launch} {D : zD} {post : Int32 → zM → Prop} (hlt : l.stackTraces = false) {o : Nat} {M : zM} (hw : wp_J15_hasNext D post o M) : zMet l D yJ15_hasNext (ws_ yJ15_hasNext cJ15_hasNext 1 (some .boolean)) rm_J15_hasNext 0 0 [.ref o] M zI post (fun _ _ => False) := by
  unfold wp_J15_hasNext at hw
  have hlv : lv_args 0 [.ref o] = [(0, .ref o)] := (zargs1 rfl rfl)
  refine z_ofW hlt (by decide) (Nat.le_trans (zsl1 rfl (Nat.le_refl 0 : (lg_sl []).length ≤ 0)) (Nat.le_of_ble_eq_true rfl)) hlv ?_
  intro p e s m args below meth c ls hG hZ hl
  have hC := hG.1
  have hx := hC.x
  have hb := hC.b
  have hown := hC.o
  have hts := hC.ts
  have hlt := hG.2.2.2.2.2
  obtain ⟨cells, hce⟩ : ∃ z : Nat, z = 0 := ⟨0, rfl⟩
  obtain ⟨slots, hsl⟩ : ∃ z : Nat, z = 0 := ⟨0, rfl⟩
  refine W.cs (cells' := cells) (slots' := slots) hce.symm hsl.symm ?_
  have hk : cells ≤ 0 := Nat.le_of_eq hce
  have hn : slots ≤ 0 := Nat.le_of_eq hsl
  clear hce hsl
  refine lv_aload_n hx hb dJ15_hasNext_0 rfl (lv_at hl 0 rfl) ?_
  obtain ⟨fs0, g6, hM0, hx0, hw⟩ := hw
  refine z_get hC hZ hM0 zc27 0 (by decide) q1023 (fun _ h9 => h9) hx0 dJ15_hasNext_1 ?_
  refine lv_aload_n hx hb dJ15_hasNext_4 rfl (lv_at hl 0 rfl) ?_
  obtain ⟨fs0, g7, hM0, hx0, hw⟩ := hw
  refine z_get hC hZ hM0 zc27 3 (by decide) q1026 (fun _ h9 => h9) hx0 dJ15_hasNext_5 ?_
  obtain ⟨b8, hr0, hw⟩ := hw
  subst hr0
  obtain ⟨fs0, g9, hM0, hx0, hw⟩ := hw
  refine z_getN hC hZ hM0 zc26 2 (by decide) q206 (fun _ h9 => h9) hx0 dJ15_hasNext_8 ?_
  refine lv_icmp_eq (tgt := 18) hx hb dJ15_hasNext_11 (by decide) (fun c10 => ?_) (fun c10 => ?_)
  · replace hw := hw.1 c10
    refine lv_iconst (v := 0) hx hb dJ15_hasNext_18 (by decide) ?_
    exact wk_J15_hasNext_L19 hG _ _ hk hn hZ (lv_sub hl [] rfl) hw
  · replace hw := hw.2 c10
    refine lv_iconst (v := 1) hx hb dJ15_hasNext_14 (by decide) ?_
    refine lv_goto (tgt := 19) hx hb dJ15_hasNext_15 (by decide) ?_
    exact wk_J15_hasNext_L19 hG _ _ hk hn hZ (lv_sub hl [] rfl) hw
abbrev rm_J15_init : Room := { frames := 1, cells := 0, slots := 0, locals := 64 }
def wp_J15_init (D : zD) (post : Unit → zM → Prop) (o : Nat) (a0 : Option Nat) (M : zM) : Prop :=
    (zp D M o 27 3 (va_rf a0) fun M => (zp D M o 27 1 (.int (-1 : Int32)) fun M => (zgR M o 27 3 fun g1 => ((zd g1 fun b2 => zgI M b2 26 0 fun g3 => (zp D M o 27 2 (.int g3) fun M => post () M))))))
set_option maxHeartbeats 4000000 in
set_option maxRecDepth 100000 in
theorem w_J15_init {l : Launch} {D : zD} {post : Unit → zM → Prop} (hlt : l.stackTraces = false) {o : Nat} {a0 : Option Nat} {M : zM} (hw : wp_J15_init D post o a0 M) : zMet l D yJ15_init (ws_ yJ15_init cJ15_init 2 (none)) rm_J15_init 0 0 [.ref o, va_rf a0] M zU post (fun _ _ => False) := by
  unfold wp_J15_init at hw
  have hlv : lv_args 0 [.ref o, va_rf a0] = [(0, .ref o), (1, va_rf a0)] := (zargs1 rfl (zargs1 (zcat _) rfl))
  refine z_ofW hlt (by decide) (Nat.le_trans (zsl1 rfl (zsl1 (zcat _) (Nat.le_refl 0 : (lg_sl []).length ≤ 0))) (Nat.le_of_ble_eq_true rfl)) hlv ?_
  intro p e s m args below meth c ls hG hZ hl
  have hC := hG.1
  have hx := hC.x
  have hb := hC.b
  have hown := hC.o
  have hts := hC.ts
  have hlt := hG.2.2.2.2.2
  obtain ⟨cells, hce⟩ : ∃ z : Nat, z = 0 := ⟨0, rfl⟩
  obtain ⟨slots, hsl⟩ : ∃ z : Nat, z = 0 := ⟨0, rfl⟩
  refine W.cs (cells' := cells) (slots' := slots) hce.symm hsl.symm ?_
  have hk : cells ≤ 0 := Nat.le_of_eq hce
  have hn : slots ≤ 0 := Nat.le_of_eq hsl
  clear hce hsl
  refine lv_aload_n hx hb dJ15_init_0 rfl (lv_at hl 0 rfl) ?_
  refine z_aload_n hC dJ15_init_1 rfl (lv_at hl 1 rfl) ?_
  obtain ⟨fs0, hM0, hb0, hk0, hw⟩ := hw
  refine z_putF hC hZ hM0 hb0 zc27 3 (by decide) q1026 (fun _ h9 => h9) (by decide) hG.2.2.2.1 rfl zrf_nar zrf_fit hk0 dJ15_init_2 (fun H locs hZ => ?_)
  generalize zu M _ _ = M at hw hZ
  refine lv_aload_n hx hb dJ15_init_5 rfl (lv_at hl 0 rfl) ?_
  refine W.objInit hx hb hown (hts _ q1022) (hts _ q124) (hts _ q125) rfl (by rw [hC.ml]; exact hl.1) rfl dJ15_init_6 (Nat.le_of_ble_eq_true rfl) (Nat.le_of_ble_eq_true rfl) ?_
  refine W.eq (g2 := F0 m 9 ls []) rfl ?_
  refine lv_aload_n hx hb dJ15_init_9 rfl (lv_at hl 0 rfl) ?_
  refine lv_iconst (v := (-1)) hx hb dJ15_init_10 (by decide) ?_
  obtain ⟨fs0, hM0, hb0, hk0, hw⟩ := hw
  refine z_put hC hZ hM0 hb0 zc27 1 (by decide) q1024 (fun _ h9 => h9) (by decide) rfl rfl hk0 dJ15_init_11 (fun H locs hZ => ?_)
  generalize zu M _ _ = M at hw hZ
  refine lv_aload_n hx hb dJ15_init_14 rfl (lv_at hl 0 rfl) ?_
  refine lv_aload_n hx hb dJ15_init_15 rfl (lv_at hl 0 rfl) ?_
  obtain ⟨fs0, g7, hM0, hx0, hw⟩ := hw
  refine z_get hC hZ hM0 zc27 3 (by decide) q1026 (fun _ h9 => h9) hx0 dJ15_init_16 ?_
  obtain ⟨b8, hr0, hw⟩ := hw
  subst hr0
  obtain ⟨fs0, g9, hM0, hx0, hw⟩ := hw
  refine z_get hC hZ hM0 zc26 0 (by decide) q209 (u_same (hts _ q210)) hx0 dJ15_init_19 ?_
  obtain ⟨fs0, hM0, hb0, hk0, hw⟩ := hw
  refine z_put hC hZ hM0 hb0 zc27 2 (by decide) q1025 (fun _ h9 => h9) (by decide) rfl rfl hk0 dJ15_init_22 (fun H locs hZ => ?_)
  generalize zu M _ _ = M at hw hZ
  exact z_vret hG hZ hk hn hw dJ15_init_25
abbrev rm_J15_next : Room := { frames := 2, cells := 0, slots := 0, locals := 84 }
def wp_J15_next (D : zD) (post : Option Nat → zM → Prop) (o : Nat) (M : zM) : Prop :=
    ((zis M o [27] ∧ wp_J15_checkForComodification D (fun _ M => (zgI M o 27 0 fun g4 => (zgR M o 27 3 fun g5 => ((zd g5 fun b6 => zgI M b6 26 2 fun g7 => ((g4 < g7 → (zgR M o 27 3 fun g8 => ((zd g8 fun b9 => zgR M b9 26 1 fun g10 => ((zd g10 fun b11 => zlen M b11 fun n12 => ((g4 < n12 → (zp D M o 27 0 (.int (g4 + (1 : Int32))) fun M => (zp D M o 27 1 (.int g4) fun M => (zaR M b11 5 g4 fun v13 => post v13 M)))) ∧ (¬ g4 < n12 → False)))))))) ∧ (¬ g4 < g7 → False))))))) o M))
set_option maxHeartbeats 4000000 in
set_option maxRecDepth 100000 in
theorem w_J15_next {l : Launch} {D : zD} {post : Option Nat → zM → Prop} (hlt : l.stackTraces = false) {o : Nat} {M : zM} (hw : wp_J15_next D post o M) : zMet l D yJ15_next (ws_ yJ15_next cJ15_next 3 (some (.object "java/lang/Object"))) rm_J15_next 0 0 [.ref o] M zR post (fun _ _ => False) := by
  unfold wp_J15_next at hw
  have hlv : lv_args 0 [.ref o] = [(0, .ref o)] := (zargs1 rfl rfl)
  refine z_ofW hlt (by decide) (Nat.le_trans (zsl1 rfl (Nat.le_refl 0 : (lg_sl []).length ≤ 0)) (Nat.le_of_ble_eq_true rfl)) hlv ?_
  intro p e s m args below meth c ls hG hZ hl
  have hC := hG.1
  have hx := hC.x
  have hb := hC.b
  have hown := hC.o
  have hts := hC.ts
  have hlt := hG.2.2.2.2.2
  obtain ⟨cells, hce⟩ : ∃ z : Nat, z = 0 := ⟨0, rfl⟩
  obtain ⟨slots, hsl⟩ : ∃ z : Nat, z = 0 := ⟨0, rfl⟩
  refine W.cs (cells' := cells) (slots' := slots) hce.symm hsl.symm ?_
  have hk : cells ≤ 0 := Nat.le_of_eq hce
  have hn : slots ≤ 0 := Nat.le_of_eq hsl
  clear hce hsl
  refine lv_aload_n hx hb dJ15_next_0 rfl (lv_at hl 0 rfl) ?_
  obtain ⟨⟨ci0, fs0, hci0, hM0⟩, hw⟩ := hw
  obtain rfl : ci0 = 27 := List.mem_singleton.mp hci0
  refine z_callU hZ (vx_runV (As := []) (rest := []) hC.fix (w_J15_checkForComodification hlt hw) (cwV 0 hts (lw_V q1055 q1056 q1057 q108 q1058) rfl rfl rfl ⟨rfl, dd_J15_checkForComodification⟩ ⟨Nat.le_of_ble_eq_true rfl, Nat.le_of_ble_eq_true rfl⟩) (z_preV hC hZ hM0 zc27) rfl rfl hl.1 rfl (lv_room (Nat.zero_le _)) dJ15_next_1 ⟨hk, hn⟩) (fun r18 M H locs hw1 hZ => ?_) (fun q M H locs ci fs E T9 N9 hw hZ hc1 hM1 hb1 => False.elim hw)
  replace hw := hw1
  clear hw1
  refine W.cs (cells' := cells) (slots' := slots) rfl rfl ?_
  refine lv_aload_n hx hb dJ15_next_4 rfl (lv_at hl 0 rfl) ?_
  obtain ⟨fs0, g21, hM0, hx0, hw⟩ := hw
  refine z_get hC hZ hM0 zc27 0 (by decide) q1023 (fun _ h9 => h9) hx0 dJ15_next_5 ?_
  refine lv_istore_n (i := 1) (lv' := [(1, .int g21), (0, .ref o)]) hx hb dJ15_next_8 rfl hl (by decide) rfl (fun ls hl1 => ?_)
  replace hl := hl1
  clear hl1
  refine lv_iload_n hx hb dJ15_next_9 rfl (lv_at hl 0 rfl) ?_
  refine lv_aload_n hx hb dJ15_next_10 rfl (lv_at hl 1 rfl) ?_
  obtain ⟨fs0, g22, hM0, hx0, hw⟩ := hw
  refine z_get hC hZ hM0 zc27 3 (by decide) q1026 (fun _ h9 => h9) hx0 dJ15_next_11 ?_
  obtain ⟨b23, hr0, hw⟩ := hw
  subst hr0
  obtain ⟨fs0, g24, hM0, hx0, hw⟩ := hw
  refine z_getN hC hZ hM0 zc26 2 (by decide) q206 (fun _ h9 => h9) hx0 dJ15_next_14 ?_
  refine lv_icmp_lt (tgt := 28) hx hb dJ15_next_17 (by decide) (fun c34 => ?_) (fun c34 => ?_)
  · replace hw := hw.1 c34
    refine lv_aload_n hx hb dJ15_next_28 rfl (lv_at hl 1 rfl) ?_
    obtain ⟨fs0, g25, hM0, hx0, hw⟩ := hw
    refine z_get hC hZ hM0 zc27 3 (by decide) q1026 (fun _ h9 => h9) hx0 dJ15_next_29 ?_
    obtain ⟨b26, hr0, hw⟩ := hw
    subst hr0
    obtain ⟨fs0, g27, hM0, hx0, hw⟩ := hw
    refine z_get hC hZ hM0 zc26 1 (by decide) q205 (fun _ h9 => h9) hx0 dJ15_next_32 ?_
    refine z_astore_n (i := 2) (lv' := [(2, va_rf g27), (1, .int g21), (0, .ref o)]) hC dJ15_next_35 rfl hl (by decide) rfl (fun ls hl1 => ?_)
    replace hl := hl1
    clear hl1
    refine lv_iload_n hx hb dJ15_next_36 rfl (lv_at hl 1 rfl) ?_
    refine z_aload_n hC dJ15_next_37 rfl (lv_at hl 0 rfl) ?_
    obtain ⟨b28, hr0, hw⟩ := hw
    subst hr0
    obtain ⟨y0, hM0, hy0, hw⟩ := hw
    refine z_alen hC hZ hM0 hy0 dJ15_next_38 ?_
    generalize Int32.ofNat y0.2.1 = n29 at hw ⊢
    refine lv_icmp_lt (tgt := 50) hx hb dJ15_next_39 (by decide) (fun c33 => ?_) (fun c33 => ?_)
    · replace hw := hw.1 c33
      refine lv_aload_n hx hb dJ15_next_50 rfl (lv_at hl 2 rfl) ?_
      refine lv_iload_n hx hb dJ15_next_51 rfl (lv_at hl 1 rfl) ?_
      refine lv_iconst (v := 1) hx hb dJ15_next_52 (by decide) ?_
      refine lv_iadd hx hb dJ15_next_53 ?_
      obtain ⟨fs0, hM0, hb0, hk0, hw⟩ := hw
      refine z_put hC hZ hM0 hb0 zc27 0 (by decide) q1023 (fun _ h9 => h9) (by decide) rfl rfl hk0 dJ15_next_54 (fun H locs hZ => ?_)
      generalize zu M _ _ = M at hw hZ
      refine lv_aload_n hx hb dJ15_next_57 rfl (lv_at hl 0 rfl) ?_
      refine lv_aload_n hx hb dJ15_next_58 rfl (lv_at hl 2 rfl) ?_
      refine lv_iload_n hx hb dJ15_next_59 rfl (lv_at hl 1 rfl) ?_
      refine lv_dup_x1 hx hb dJ15_next_60 rfl rfl ?_
      obtain ⟨fs0, hM0, hb0, hk0, hw⟩ := hw
      refine z_put hC hZ hM0 hb0 zc27 1 (by decide) q1024 (fun _ h9 => h9) (by decide) rfl rfl hk0 dJ15_next_61 (fun H locs hZ => ?_)
      generalize zu M _ _ = M at hw hZ
      obtain ⟨n0, f0, v30, hM0, hi0, hr0, hw⟩ := hw
      refine z_aald hC hZ hM0 (by decide) rfl hi0 hr0 dJ15_next_64 ?_
      exact z_aret (r := v30) hG (Or.inl ⟨_, rfl⟩) hZ hk hn hw dJ15_next_65
    · replace hw := hw.2 c33
      exact hw.elim
  · replace hw := hw.2 c34
    exact hw.elim
abbrev rm_J1_init : Room := { frames := 1, cells := 0, slots := 0, locals := 64 }
def wp_J1_init (D : zD) (post : Unit → zM → Prop) (o : Nat) (M : zM) : Prop :=
    post () M
set_option maxHeartbeats 4000000 in
set_option maxRecDepth 100000 in
theorem w_J1_init {l : Launch} {D : zD} {post : Unit → zM → Prop} (hlt : l.stackTraces = false) {o : Nat} {M : zM} (hw : wp_J1_init D post o M) : zMet l D yJ1_init (ws_ yJ1_init cJ1_init 1 (none)) rm_J1_init 0 0 [.ref o] M zU post (fun _ _ => False) := by
  unfold wp_J1_init at hw
  have hlv : lv_args 0 [.ref o] = [(0, .ref o)] := (zargs1 rfl rfl)
  refine z_ofW hlt (by decide) (Nat.le_trans (zsl1 rfl (Nat.le_refl 0 : (lg_sl []).length ≤ 0)) (Nat.le_of_ble_eq_true rfl)) hlv ?_
  intro p e s m args below meth c ls hG hZ hl
  have hC := hG.1
  have hx := hC.x
  have hb := hC.b
  have hown := hC.o
  have hts := hC.ts
  have hlt := hG.2.2.2.2.2
  obtain ⟨cells, hce⟩ : ∃ z : Nat, z = 0 := ⟨0, rfl⟩
  obtain ⟨slots, hsl⟩ : ∃ z : Nat, z = 0 := ⟨0, rfl⟩
  refine W.cs (cells' := cells) (slots' := slots) hce.symm hsl.symm ?_
  have hk : cells ≤ 0 := Nat.le_of_eq hce
  have hn : slots ≤ 0 := Nat.le_of_eq hsl
  clear hce hsl
  refine lv_aload_n hx hb dJ1_init_0 rfl (lv_at hl 0 rfl) ?_
  refine W.objInit hx hb hown (hts _ q201) (hts _ q124) (hts _ q125) rfl (by rw [hC.ml]; exact hl.1) rfl dJ1_init_1 (Nat.le_of_ble_eq_true rfl) (Nat.le_of_ble_eq_true rfl) ?_
  refine W.eq (g2 := F0 m 4 ls []) rfl ?_
  exact z_vret hG hZ hk hn hw dJ1_init_4
abbrev rm_J2_init : Room := { frames := 2, cells := 0, slots := 0, locals := 84 }
def wp_J2_init (D : zD) (post : Unit → zM → Prop) (o : Nat) (M : zM) : Prop :=
    (wp_J1_init D (fun _ M => (zp D M o 26 0 (.int (0 : Int32)) fun M => post () M)) o M)
set_option maxHeartbeats 4000000 in
set_option maxRecDepth 100000 in
theorem w_J2_init {l : Launch} {D : zD} {post : Unit → zM → Prop} (hlt : l.stackTraces = false) {o : Nat} {M : zM} (hw : wp_J2_init D post o M) : zMet l D yJ2_init (ws_ yJ2_init cJ2_init 1 (none)) rm_J2_init 0 0 [.ref o] M zU post (fun _ _ => False) := by
  unfold wp_J2_init at hw
  have hlv : lv_args 0 [.ref o] = [(0, .ref o)] := (zargs1 rfl rfl)
  refine z_ofW hlt (by decide) (Nat.le_trans (zsl1 rfl (Nat.le_refl 0 : (lg_sl []).length ≤ 0)) (Nat.le_of_ble_eq_true rfl)) hlv ?_
  intro p e s m args below meth c ls hG hZ hl
  have hC := hG.1
  have hx := hC.x
  have hb := hC.b
  have hown := hC.o
  have hts := hC.ts
  have hlt := hG.2.2.2.2.2
  obtain ⟨cells, hce⟩ : ∃ z : Nat, z = 0 := ⟨0, rfl⟩
  obtain ⟨slots, hsl⟩ : ∃ z : Nat, z = 0 := ⟨0, rfl⟩
  refine W.cs (cells' := cells) (slots' := slots) hce.symm hsl.symm ?_
  have hk : cells ≤ 0 := Nat.le_of_eq hce
  have hn : slots ≤ 0 := Nat.le_of_eq hsl
  clear hce hsl
  refine lv_aload_n hx hb dJ2_init_0 rfl (lv_at hl 0 rfl) ?_
  refine z_callU hZ (vx_runI (As := []) (rest := []) hC.fix (w_J1_init hlt hw) (cwI 0 hts (lw_meth q200) rfl rfl rfl (hts _ q72) (hts _ q198) (hts _ q199) rfl dd_J1_init ⟨Nat.le_of_ble_eq_true rfl, Nat.le_of_ble_eq_true rfl⟩) (z_preS hC hZ) rfl rfl hl.1 rfl (lv_room (Nat.zero_le _)) dJ2_init_1 ⟨hk, hn⟩) (fun r5 M H locs hw1 hZ => ?_) (fun q M H locs ci fs E T9 N9 hw hZ hc1 hM1 hb1 => False.elim hw)
  replace hw := hw1
  clear hw1
  refine W.cs (cells' := cells) (slots' := slots) rfl rfl ?_
  refine lv_aload_n hx hb dJ2_init_4 rfl (lv_at hl 0 rfl) ?_
  refine lv_iconst (v := 0) hx hb dJ2_init_5 (by decide) ?_
  obtain ⟨fs0, hM0, hb0, hk0, hw⟩ := hw
  refine z_put hC hZ hM0 hb0 zc26 0 (by decide) q208 (fun _ h9 => h9) (by decide) rfl rfl hk0 dJ2_init_6 (fun H locs hZ => ?_)
  generalize zu M _ _ = M at hw hZ
  exact z_vret hG hZ hk hn hw dJ2_init_9
abbrev rm_J4_hugeLength : Room := { frames := 1, cells := 0, slots := 0, locals := 64 }
def wp_J4_hugeLength (D : zD) (post : Int32 → zM → Prop) (a0 : Int32) (a1 : Int32) (M : zM) : Prop :=
    ((0 ≤ (a0 + a1) → (((2147483639 : Int32) < (a0 + a1) → post (a0 + a1) M) ∧ (¬ (2147483639 : Int32) < (a0 + a1) → post (2147483639 : Int32) M))) ∧ (¬ 0 ≤ (a0 + a1) → False))
set_option maxHeartbeats 4000000 in
set_option maxRecDepth 100000 in
theorem w_J4_hugeLength {l : Launch} {D : zD} {post : Int32 → zM → Prop} (hlt : l.stackTraces = false) {a0 : Int32} {a1 : Int32} {M : zM} (hw : wp_J4_hugeLength D post a0 a1 M) : zMet l D yJ4_hugeLength (ws_ yJ4_hugeLength cJ4_hugeLength 3 (some .int)) rm_J4_hugeLength 0 0 [.int a0, .int a1] M zI post (fun _ _ => False) := by
  unfold wp_J4_hugeLength at hw
  have hlv : lv_args 0 [.int a0, .int a1] = [(0, .int a0), (1, .int a1)] := (zargs1 rfl (zargs1 rfl rfl))
  refine z_ofW hlt (by decide) (Nat.le_trans (zsl1 rfl (zsl1 rfl (Nat.le_refl 0 : (lg_sl []).length ≤ 0))) (Nat.le_of_ble_eq_true rfl)) hlv ?_
  intro p e s m args below meth c ls hG hZ hl
  have hC := hG.1
  have hx := hC.x
  have hb := hC.b
  have hown := hC.o
  have hts := hC.ts
  have hlt := hG.2.2.2.2.2
  obtain ⟨cells, hce⟩ : ∃ z : Nat, z = 0 := ⟨0, rfl⟩
  obtain ⟨slots, hsl⟩ : ∃ z : Nat, z = 0 := ⟨0, rfl⟩
  refine W.cs (cells' := cells) (slots' := slots) hce.symm hsl.symm ?_
  have hk : cells ≤ 0 := Nat.le_of_eq hce
  have hn : slots ≤ 0 := Nat.le_of_eq hsl
  clear hce hsl
  refine lv_iload_n hx hb dJ4_hugeLength_0 rfl (lv_at hl 0 rfl) ?_
  refine lv_iload_n hx hb dJ4_hugeLength_1 rfl (lv_at hl 1 rfl) ?_
  refine lv_iadd hx hb dJ4_hugeLength_2 ?_
  refine lv_istore_n (i := 2) (lv' := [(2, .int (a0 + a1)), (0, .int a0), (1, .int a1)]) hx hb dJ4_hugeLength_3 rfl hl (by decide) rfl (fun ls hl1 => ?_)
  replace hl := hl1
  clear hl1
  refine lv_iload_n hx hb dJ4_hugeLength_4 rfl (lv_at hl 0 rfl) ?_
  refine lv_if_ge (tgt := 49) hx hb dJ4_hugeLength_5 (by decide) (fun c4 => ?_) (fun c4 => ?_)
  · replace hw := hw.1 c4
    refine lv_iload_n hx hb dJ4_hugeLength_49 rfl (lv_at hl 0 rfl) ?_
    refine lv_ldc hx hb hown (hts _ q234) dJ4_hugeLength_50 ?_
    refine lv_icmp_gt (tgt := 58) hx hb dJ4_hugeLength_52 (by decide) (fun c3 => ?_) (fun c3 => ?_)
    · replace hw := hw.1 c3
      refine lv_iload_n hx hb dJ4_hugeLength_58 rfl (lv_at hl 0 rfl) ?_
      exact z_iret hG hZ hk hn hw dJ4_hugeLength_59
    · replace hw := hw.2 c3
      refine lv_ldc hx hb hown (hts _ q234) dJ4_hugeLength_55 ?_
      exact z_iret hG hZ hk hn hw dJ4_hugeLength_57
  · replace hw := hw.2 c4
    exact hw.elim
abbrev rm_J4_newLength : Room := { frames := 2, cells := 0, slots := 0, locals := 86 }
def wp_J4_newLength_L21 (D : zD) (post : Int32 → zM → Prop) (x0 : Int32) (x1 : Int32) (M : zM) : Prop :=
    (wp_J4_hugeLength D (fun r1 M => post r1 M) x0 x1 M)
set_option maxHeartbeats 4000000 in
set_option maxRecDepth 100000 in
theorem wk_J4_newLength_L21 {p : Program} {l : Launch} {e : Env} {s : State} {m : MethodId} {args : Array Value} {below : List Frame} {meth : Method} {c : Code} {D : zD} {post : Int32 → zM → Prop} (hG : zGx p l s m args meth c cJ4_newLength 4 "jdk/internal/util/ArraysSupport" D (some .int) "newLength" []) : ∀ {H : Heap} {locs : List Loc} {cells slots : Nat} {ls : Array Slot} (x0 : Int32) (x1 : Int32) (M : zM), cells ≤ 0 → slots ≤ 0 → zS D M H locs → lv_has ls 4 [(0, .int x0), (1, .int x1)] → wp_J4_newLength_L21 D post x0 x1 M → W p l e rm_J4_newLength s m args below meth c H locs cells slots (vx_MQ below (zQ D zI post) (zX D (fun _ _ => False)) args s 0 0 (zA D)) (F0 m 21 ls []) := by
  have hC := hG.1
  have hx := hC.x
  have hb := hC.b
  have hown := hC.o
  have hts := hC.ts
  have hlt := hG.2.2.2.2.2
  intro H locs cells slots ls x0 x1 M hk hn hZ hl hw
  refine lv_iload_n hx hb dJ4_newLength_21 rfl (lv_at hl 0 rfl) ?_
  refine lv_iload_n hx hb dJ4_newLength_22 rfl (lv_at hl 1 rfl) ?_
  refine z_callI hZ (vx_runS (As := [.int x0, .int x1]) (rest := []) hC.fix (w_J4_hugeLength hlt hw) (va_cwS 2 hts (lw_S q235 q236 q75 q237) rfl rfl rfl dd_J4_hugeLength ⟨Nat.le_of_ble_eq_true rfl, Nat.le_of_ble_eq_true rfl⟩) (z_preS hC hZ) rfl rfl hl.1 rfl (lv_room (Nat.zero_le _)) dJ4_newLength_23 ⟨hk, hn⟩) (fun r4 M H locs hw1 hZ => ?_) (fun q M H locs ci fs E T9 N9 hw hZ hc1 hM1 hb1 => False.elim hw)
  replace hw := hw1
  clear hw1
  refine W.cs (cells' := cells) (slots' := slots) rfl rfl ?_
  exact z_iret hG hZ hk hn hw dJ4_newLength_26
def wp_J4_newLength (D : zD) (post : Int32 → zM → Prop) (a0 : Int32) (a1 : Int32) (a2 : Int32) (M : zM) : Prop :=
    (wp_J0_max D (fun r7 M => (((a0 + r7) ≤ (0 : Int32) → wp_J4_newLength_L21 D post a0 a1 M) ∧ (¬ (a0 + r7) ≤ (0 : Int32) → (((2147483639 : Int32) < (a0 + r7) → wp_J4_newLength_L21 D post a0 a1 M) ∧ (¬ (2147483639 : Int32) < (a0 + r7) → post (a0 + r7) M))))) a1 a2 M)
set_option maxHeartbeats 4000000 in
set_option maxRecDepth 100000 in
theorem w_J4_newLength {l : Launch} {D : zD} {post : Int32 → zM → Prop} (hlt : l.stackTraces = false) {a0 : Int32} {a1 : Int32} {a2 : Int32} {M : zM} (hw : wp_J4_newLength D post a0 a1 a2 M) : zMet l D yJ4_newLength (ws_ yJ4_newLength cJ4_newLength 4 (some .int)) rm_J4_newLength 0 0 [.int a0, .int a1, .int a2] M zI post (fun _ _ => False) := by
  unfold wp_J4_newLength at hw
  have hlv : lv_args 0 [.int a0, .int a1, .int a2] = [(0, .int a0), (1, .int a1), (2, .int a2)] := (zargs1 rfl (zargs1 rfl (zargs1 rfl rfl)))
  refine z_ofW hlt (by decide) (Nat.le_trans (zsl1 rfl (zsl1 rfl (zsl1 rfl (Nat.le_refl 0 : (lg_sl []).length ≤ 0)))) (Nat.le_of_ble_eq_true rfl)) hlv ?_
  intro p e s m args below meth c ls hG hZ hl
  have hC := hG.1
  have hx := hC.x
  have hb := hC.b
  have hown := hC.o
  have hts := hC.ts
  have hlt := hG.2.2.2.2.2
  obtain ⟨cells, hce⟩ : ∃ z : Nat, z = 0 := ⟨0, rfl⟩
  obtain ⟨slots, hsl⟩ : ∃ z : Nat, z = 0 := ⟨0, rfl⟩
  refine W.cs (cells' := cells) (slots' := slots) hce.symm hsl.symm ?_
  have hk : cells ≤ 0 := Nat.le_of_eq hce
  have hn : slots ≤ 0 := Nat.le_of_eq hsl
  clear hce hsl
  refine lv_iload_n hx hb dJ4_newLength_0 rfl (lv_at hl 0 rfl) ?_
  refine lv_iload_n hx hb dJ4_newLength_1 rfl (lv_at hl 1 rfl) ?_
  refine lv_iload_n hx hb dJ4_newLength_2 rfl (lv_at hl 2 rfl) ?_
  refine z_callI hZ (vx_runS (As := [.int a1, .int a2]) (rest := [.int a0]) hC.fix (w_J0_max hlt hw) (va_cwS 2 hts (lw_S q231 q232 q69 q233) rfl rfl rfl dd_J0_max ⟨Nat.le_of_ble_eq_true rfl, Nat.le_of_ble_eq_true rfl⟩) (z_preS hC hZ) rfl rfl hl.1 rfl (lv_room (Nat.le_trans (zrm1 rfl zrm0) (Nat.le_of_ble_eq_true rfl))) dJ4_newLength_3 ⟨hk, hn⟩) (fun r12 M H locs hw1 hZ => ?_) (fun q M H locs ci fs E T9 N9 hw hZ hc1 hM1 hb1 => False.elim hw)
  replace hw := hw1
  clear hw1
  refine W.cs (cells' := cells) (slots' := slots) rfl rfl ?_
  refine lv_iadd hx hb dJ4_newLength_6 ?_
  refine lv_istore_n (i := 3) (lv' := [(3, .int (a0 + r12)), (0, .int a0), (1, .int a1), (2, .int a2)]) hx hb dJ4_newLength_7 rfl hl (by decide) rfl (fun ls hl1 => ?_)
  replace hl := hl1
  clear hl1
  refine lv_iconst (v := 0) hx hb dJ4_newLength_8 (by decide) ?_
  refine lv_iload_n hx hb dJ4_newLength_9 rfl (lv_at hl 0 rfl) ?_
  refine lv_icmp_ge (tgt := 21) hx hb dJ4_newLength_10 (by decide) (fun c16 => ?_) (fun c16 => ?_)
  · replace hw := hw.1 c16
    exact wk_J4_newLength_L21 hG _ _ _ hk hn hZ (lv_sub hl [1, 2] rfl) hw
  · replace hw := hw.2 c16
    refine lv_iload_n hx hb dJ4_newLength_13 rfl (lv_at hl 0 rfl) ?_
    refine lv_ldc hx hb hown (hts _ q234) dJ4_newLength_14 ?_
    refine lv_icmp_gt (tgt := 21) hx hb dJ4_newLength_16 (by decide) (fun c15 => ?_) (fun c15 => ?_)
    · replace hw := hw.1 c15
      exact wk_J4_newLength_L21 hG _ _ _ hk hn hZ (lv_sub hl [1, 2] rfl) hw
    · replace hw := hw.2 c15
      refine lv_iload_n hx hb dJ4_newLength_19 rfl (lv_at hl 0 rfl) ?_
      exact z_iret hG hZ hk hn hw dJ4_newLength_20
abbrev rm_J5_copyOf_2 (K N : Nat) : Room := { frames := 2, cells := K, slots := N, locals := 85 }
def wp_J5_copyOf_2 (D : zD) (post : Option Nat → zM → Prop) (k : Nat) (n : Nat) (a0 : Option Nat) (a1 : Int32) (a2 : Option Nat) (M : zM) : Prop :=
    ((¬ a2 = (some (D.2.2.2 2)) → False) ∧ (a2 = (some (D.2.2.2 2)) → (znewA D M 5 a1 k n fun b1 M => ((zd a0 fun b2 => zlen M b2 fun n3 => (wp_J0_min D (fun r4 M => ((zcp5 D M b2 b1 (0 : Int32) (0 : Int32) r4 (fun M => post (some b1) M)))) n3 a1 M))))))
set_option maxHeartbeats 4000000 in
set_option maxRecDepth 100000 in
theorem w_J5_copyOf_2 {l : Launch} {D : zD} {post : Option Nat → zM → Prop} (hlt : l.stackTraces = false) {k : Nat} {n : Nat} {a0 : Option Nat} {a1 : Int32} {a2 : Option Nat} {M : zM} (hw : wp_J5_copyOf_2 D post k n a0 a1 a2 M) : zMet l D yJ5_copyOf_2 (ws_ yJ5_copyOf_2 cJ5_copyOf_2 4 (some (.array (.object "java/lang/Object")))) (rm_J5_copyOf_2 k n) k n [va_rf a0, .int a1, va_rf a2] M zR post (fun _ _ => False) := by
  unfold wp_J5_copyOf_2 at hw
  have hlv : lv_args 0 [va_rf a0, .int a1, va_rf a2] = [(0, va_rf a0), (1, .int a1), (2, va_rf a2)] := (zargs1 (zcat _) (zargs1 rfl (zargs1 (zcat _) rfl)))
  refine z_ofW hlt (by decide) (Nat.le_trans (zsl1 (zcat _) (zsl1 rfl (zsl1 (zcat _) (Nat.le_refl 0 : (lg_sl []).length ≤ 0)))) (Nat.le_of_ble_eq_true rfl)) hlv ?_
  intro p e s m args below meth c ls hG hZ hl
  have hC := hG.1
  have hx := hC.x
  have hb := hC.b
  have hown := hC.o
  have hts := hC.ts
  have hlt := hG.2.2.2.2.2
  obtain ⟨cells, hce⟩ : ∃ z : Nat, z = 0 := ⟨0, rfl⟩
  obtain ⟨slots, hsl⟩ : ∃ z : Nat, z = 0 := ⟨0, rfl⟩
  refine W.cs (cells' := cells) (slots' := slots) hce.symm hsl.symm ?_
  have hk : cells + k ≤ k := by omega
  have hn : slots + n ≤ n := by omega
  clear hce hsl
  refine z_aload_n hC dJ5_copyOf_2_0 rfl (lv_at hl 2 rfl) ?_
  refine va_ldcM hx hb hown (hts _ q278) hC.K.2.2.2.2.2.2.2.2.1.2.1 dJ5_copyOf_2_1 ?_
  refine lv_acmp_ne (rx := a2) (ry := (some (D.2.2.2 2))) (tgt := 13) hx hb dJ5_copyOf_2_3 (by decide) (fun c14 => ?_) (fun c14 => ?_)
  · replace hw := hw.1 c14
    refine z_aload_n hC dJ5_copyOf_2_13 rfl (lv_at hl 2 rfl) ?_
    exact hw.elim
  · replace hw := hw.2 c14
    refine lv_iload_n hx hb dJ5_copyOf_2_6 rfl (lv_at hl 1 rfl) ?_
    obtain ⟨hx1, hx2, hk1, hn1, hw⟩ := hw
    refine z_newq (k := 5) hC hZ q280 (by decide) rfl hx1 rfl (z_bytes hx2 (by decide)) (show cells + 1 ≤ k by omega) (show slots + a1.toNatClampNeg ≤ n by omega) dJ5_copyOf_2_7 (fun b8 H hq0 hq1 hZ => ?_)
    replace hw := hw b8 hq0 hq1
    replace hZ : zS D (zu M b8 (some (.inl (5, zna 5 a1.toNatClampNeg)))) _ _ := hZ
    refine W.cs (cells' := cells + 1) (slots' := slots + a1.toNatClampNeg) rfl rfl ?_
    generalize zu M _ _ = M at hw hZ
    have hk : cells + 1 + (k - 1) ≤ k := by omega
    have hn : slots + a1.toNatClampNeg + (n - a1.toNatClampNeg) ≤ n := by omega
    generalize cells + 1 = cells at hk ⊢
    generalize slots + a1.toNatClampNeg = slots at hn ⊢
    clear hk1 hn1 hx1 hx2
    refine lv_goto (tgt := 24) hx hb dJ5_copyOf_2_10 (by decide) ?_
    refine lv_astore_n (i := 3) (lv' := [(3, .ref b8), (0, va_rf a0), (1, .int a1), (2, va_rf a2)]) hx hb dJ5_copyOf_2_24 rfl hl (by decide) (zfc rfl (zfk rfl (zfk rfl (zfk (zfa rfl) rfl)))) (fun ls hl1 => ?_)
    replace hl := hl1
    clear hl1
    refine z_aload_n hC dJ5_copyOf_2_25 rfl (lv_at hl 1 rfl) ?_
    refine lv_iconst (v := 0) hx hb dJ5_copyOf_2_26 (by decide) ?_
    refine lv_aload_n hx hb dJ5_copyOf_2_27 rfl (lv_at hl 0 rfl) ?_
    refine lv_iconst (v := 0) hx hb dJ5_copyOf_2_28 (by decide) ?_
    refine z_aload_n hC dJ5_copyOf_2_29 rfl (lv_at hl 1 rfl) ?_
    obtain ⟨b9, hr0, hw⟩ := hw
    subst hr0
    obtain ⟨y0, hM0, hy0, hw⟩ := hw
    refine z_alen hC hZ hM0 hy0 dJ5_copyOf_2_30 ?_
    generalize Int32.ofNat y0.2.1 = n10 at hw ⊢
    refine lv_iload_n hx hb dJ5_copyOf_2_31 rfl (lv_at hl 2 rfl) ?_
    refine z_callI hZ (vx_runS (As := [.int n10, .int a1]) (rest := [.int (0 : Int32), .ref b8, .int (0 : Int32), .ref b9]) hC.fix (w_J0_min hlt hw) (va_cwS 2 hts (lw_S q281 q146 q69 q147) rfl rfl rfl dd_J0_min ⟨Nat.le_of_ble_eq_true rfl, Nat.le_of_ble_eq_true rfl⟩) (z_preS hC hZ) rfl rfl hl.1 rfl (lv_room (Nat.le_trans (zrm1 rfl (zrm1 rfl (zrm1 rfl (zrm1 rfl zrm0)))) (Nat.le_of_ble_eq_true rfl))) dJ5_copyOf_2_32 ⟨(show cells + 0 ≤ k by omega), (show slots + 0 ≤ n by omega)⟩) (fun r11 M H locs hw1 hZ => ?_) (fun q M H locs ci fs E T9 N9 hw hZ hc1 hM1 hb1 => False.elim hw)
    replace hw := hw1
    clear hw1
    refine W.cs (cells' := cells) (slots' := slots) rfl rfl ?_
    refine z_copy5 hC hZ hl.1 hw q282 q284 q283 q77 (Nat.le_of_ble_eq_true rfl) (z_nat (Nat.le_trans zrm0 (Nat.le_of_ble_eq_true rfl)) (Nat.le_of_ble_eq_true rfl)) dJ5_copyOf_2_35 (fun M H locs hw1 hZ => ?_)
    replace hw := hw1
    clear hw1
    refine lv_aload_n hx hb dJ5_copyOf_2_38 rfl (lv_at hl 0 rfl) ?_
    exact z_aret (r := (some b8)) hG (Or.inr ⟨_, rfl⟩) hZ (by omega) (by omega) hw dJ5_copyOf_2_39
abbrev rm_J5_copyOf (K N : Nat) : Room := { frames := 3, cells := K, slots := N, locals := 108 }
def wp_J5_copyOf (D : zD) (post : Option Nat → zM → Prop) (k : Nat) (n : Nat) (a0 : Option Nat) (a1 : Int32) (M : zM) : Prop :=
    ((zd a0 fun b1 => (zB D ≤ b1 ∧ (∃ x : vp_A, M b1 = some (.inl (5, x)))) ∧ ((∃ k3 n4, k3 ≤ k ∧ n4 ≤ n ∧ wp_J5_copyOf_2 D (fun r2 M => post r2 M) k3 n4 (some b1) a1 (some (D.2.2.2 2)) M))))
set_option maxHeartbeats 4000000 in
set_option maxRecDepth 100000 in
theorem w_J5_copyOf {l : Launch} {D : zD} {post : Option Nat → zM → Prop} (hlt : l.stackTraces = false) {k : Nat} {n : Nat} {a0 : Option Nat} {a1 : Int32} {M : zM} (hw : wp_J5_copyOf D post k n a0 a1 M) : zMet l D yJ5_copyOf (ws_ yJ5_copyOf cJ5_copyOf 2 (some (.array (.object "java/lang/Object")))) (rm_J5_copyOf k n) k n [va_rf a0, .int a1] M zR post (fun _ _ => False) := by
  unfold wp_J5_copyOf at hw
  have hlv : lv_args 0 [va_rf a0, .int a1] = [(0, va_rf a0), (1, .int a1)] := (zargs1 (zcat _) (zargs1 rfl rfl))
  refine z_ofW hlt (by decide) (Nat.le_trans (zsl1 (zcat _) (zsl1 rfl (Nat.le_refl 0 : (lg_sl []).length ≤ 0))) (Nat.le_of_ble_eq_true rfl)) hlv ?_
  intro p e s m args below meth c ls hG hZ hl
  have hC := hG.1
  have hx := hC.x
  have hb := hC.b
  have hown := hC.o
  have hts := hC.ts
  have hlt := hG.2.2.2.2.2
  obtain ⟨cells, hce⟩ : ∃ z : Nat, z = 0 := ⟨0, rfl⟩
  obtain ⟨slots, hsl⟩ : ∃ z : Nat, z = 0 := ⟨0, rfl⟩
  refine W.cs (cells' := cells) (slots' := slots) hce.symm hsl.symm ?_
  have hk : cells + k ≤ k := by omega
  have hn : slots + n ≤ n := by omega
  clear hce hsl
  refine z_aload_n hC dJ5_copyOf_0 rfl (lv_at hl 0 rfl) ?_
  refine lv_iload_n hx hb dJ5_copyOf_1 rfl (lv_at hl 1 rfl) ?_
  refine z_aload_n hC dJ5_copyOf_2 rfl (lv_at hl 0 rfl) ?_
  obtain ⟨b5, hr0, hw⟩ := hw
  subst hr0
  obtain ⟨⟨hb0, x0, hM0⟩, hw⟩ := hw
  refine z_getClass hC hZ hl.1 hM0 hb0 q241 (Nat.le_trans (zrm1 rfl (zrm1 rfl zrm0)) (Nat.le_of_ble_eq_true rfl)) (Nat.le_of_ble_eq_true rfl) (Nat.le_of_ble_eq_true rfl) dJ5_copyOf_3 ?_
  obtain ⟨k7, n8, hk1, hn1, hw⟩ := hw
  refine z_callR hZ (vx_runS (As := [.ref b5, .int a1, .ref (D.2.2.2 2)]) (rest := []) hC.fix (w_J5_copyOf_2 hlt hw) (va_cwS 3 hts (lw_S q275 q276 q76 q277) rfl rfl rfl dd_J5_copyOf_2 ⟨Nat.le_of_ble_eq_true rfl, Nat.le_of_ble_eq_true rfl⟩) (z_preS hC hZ) rfl rfl hl.1 rfl (lv_room (Nat.zero_le _)) dJ5_copyOf_6 ⟨(show cells + k7 ≤ k by omega), (show slots + n8 ≤ n by omega)⟩) (fun r6 M H locs hw1 hZ => ?_) (fun q M H locs ci fs E T9 N9 hw hZ hc1 hM1 hb1 => False.elim hw)
  replace hw := hw1
  clear hw1
  have hk : cells + k7 + (k - k7) ≤ k := by omega
  have hn : slots + n8 + (n - n8) ≤ n := by omega
  generalize cells + k7 = cells at hk ⊢
  generalize slots + n8 = slots at hn ⊢
  clear hk1 hn1
  exact z_aret (r := r6) hG (Or.inr ⟨_, rfl⟩) hZ (by omega) (by omega) hw dJ5_copyOf_9
abbrev rm_J3_grow (K N : Nat) : Room := { frames := 4, cells := K, slots := N, locals := 129 }
def wp_J3_grow_L20 (D : zD) (post : Option Nat → zM → Prop) (o : Nat) (k : Nat) (n : Nat) (x1 : Int32) (x2 : Int32) (M : zM) : Prop :=
    (wp_J4_newLength D (fun r1 M => (zgR M o 26 1 fun g4 => ((∃ k6 n7, k6 ≤ k ∧ n7 ≤ n ∧ wp_J5_copyOf D (fun r5 M => (zp D M o 26 1 (va_rf r5) fun M => post r5 M)) k6 n7 g4 r1 M)))) x2 (x1 - x2) (x2 >>> ((1 : Int32) &&& 31)) M)
set_option maxHeartbeats 4000000 in
set_option maxRecDepth 100000 in
theorem wk_J3_grow_L20 {p : Program} {l : Launch} {e : Env} {s : State} {m : MethodId} {args : Array Value} {below : List Frame} {meth : Method} {c : Code} {D : zD} {post : Option Nat → zM → Prop} {K N : Nat} {o : Nat} (hG : zGx p l s m args meth c cJ3_grow 4 "java/util/ArrayList" D (some (.array (.object "java/lang/Object"))) "grow" []) : ∀ {H : Heap} {locs : List Loc} {cells slots : Nat} {ls : Array Slot} (k : Nat) (n : Nat) (x1 : Int32) (x2 : Int32) (M : zM), cells + k ≤ K → slots + n ≤ N → zS D M H locs → lv_has ls 4 [(0, .ref o), (1, .int x1), (2, .int x2)] → wp_J3_grow_L20 D post o k n x1 x2 M → W p l e (rm_J3_grow K N) s m args below meth c H locs cells slots (vx_MQ below (zQ D zR post) (zX D (fun _ _ => False)) args s K N (zA D)) (F0 m 20 ls []) := by
  have hC := hG.1
  have hx := hC.x
  have hb := hC.b
  have hown := hC.o
  have hts := hC.ts
  have hlt := hG.2.2.2.2.2
  intro H locs cells slots ls k n x1 x2 M hk hn hZ hl hw
  refine lv_iload_n hx hb dJ3_grow_20 rfl (lv_at hl 2 rfl) ?_
  refine lv_iload_n hx hb dJ3_grow_21 rfl (lv_at hl 1 rfl) ?_
  refine lv_iload_n hx hb dJ3_grow_22 rfl (lv_at hl 2 rfl) ?_
  refine lv_isub hx hb dJ3_grow_23 ?_
  refine lv_iload_n hx hb dJ3_grow_24 rfl (lv_at hl 2 rfl) ?_
  refine lv_iconst (v := 1) hx hb dJ3_grow_25 (by decide) ?_
  refine lv_ishr hx hb dJ3_grow_26 ?_
  refine z_callI hZ (vx_runS (As := [.int x2, .int (x1 - x2), .int (x2 >>> ((1 : Int32) &&& 31))]) (rest := []) hC.fix (w_J4_newLength hlt hw) (va_cwS 3 hts (lw_S q228 q229 q75 q230) rfl rfl rfl dd_J4_newLength ⟨Nat.le_of_ble_eq_true rfl, Nat.le_of_ble_eq_true rfl⟩) (z_preS hC hZ) rfl rfl hl.1 rfl (lv_room (Nat.zero_le _)) dJ3_grow_27 ⟨(show cells + 0 ≤ K by omega), (show slots + 0 ≤ N by omega)⟩) (fun r9 M H locs hw1 hZ => ?_) (fun q M H locs ci fs E T9 N9 hw hZ hc1 hM1 hb1 => False.elim hw)
  replace hw := hw1
  clear hw1
  refine W.cs (cells' := cells) (slots' := slots) rfl rfl ?_
  refine lv_istore_n (i := 3) (lv' := [(3, .int r9), (0, .ref o), (1, .int x1), (2, .int x2)]) hx hb dJ3_grow_30 rfl hl (by decide) rfl (fun ls hl1 => ?_)
  replace hl := hl1
  clear hl1
  refine lv_aload_n hx hb dJ3_grow_31 rfl (lv_at hl 1 rfl) ?_
  refine lv_aload_n hx hb dJ3_grow_32 rfl (lv_at hl 1 rfl) ?_
  obtain ⟨fs0, g12, hM0, hx0, hw⟩ := hw
  refine z_get hC hZ hM0 zc26 1 (by decide) q204 (fun _ h9 => h9) hx0 dJ3_grow_33 ?_
  refine lv_iload_n hx hb dJ3_grow_36 rfl (lv_at hl 0 rfl) ?_
  obtain ⟨k14, n15, hk1, hn1, hw⟩ := hw
  refine z_callR hZ (vx_runS (As := [va_rf g12, .int r9]) (rest := [.ref o]) hC.fix (w_J5_copyOf hlt hw) (va_cwS 2 hts (lw_S q238 q239 q76 q240) rfl rfl rfl dd_J5_copyOf ⟨Nat.le_of_ble_eq_true rfl, Nat.le_of_ble_eq_true rfl⟩) (z_preS hC hZ) rfl rfl hl.1 rfl (lv_room (Nat.le_trans (zrm1 rfl zrm0) (Nat.le_of_ble_eq_true rfl))) dJ3_grow_37 ⟨(show cells + k14 ≤ K by omega), (show slots + n15 ≤ N by omega)⟩) (fun r13 M H locs hw1 hZ => ?_) (fun q M H locs ci fs E T9 N9 hw hZ hc1 hM1 hb1 => False.elim hw)
  replace hw := hw1
  clear hw1
  have hk : cells + k14 + (k - k14) ≤ K := by omega
  have hn : slots + n15 + (n - n15) ≤ N := by omega
  generalize cells + k14 = cells at hk ⊢
  generalize slots + n15 = slots at hn ⊢
  clear hk1 hn1
  refine lv_dup_x1 hx hb dJ3_grow_40 (zcat _) rfl ?_
  obtain ⟨fs0, hM0, hb0, hk0, hw⟩ := hw
  refine z_put hC hZ hM0 hb0 zc26 1 (by decide) q204 (fun _ h9 => h9) (by decide) zrf_narA zrf_fitA hk0 dJ3_grow_41 (fun H locs hZ => ?_)
  generalize zu M _ _ = M at hw hZ
  exact z_aret (r := r13) hG (Or.inr ⟨_, rfl⟩) hZ (by omega) (by omega) hw dJ3_grow_44
def wp_J3_grow (D : zD) (post : Option Nat → zM → Prop) (k : Nat) (n : Nat) (o : Nat) (a0 : Int32) (M : zM) : Prop :=
    (zgR M o 26 1 fun g17 => ((zd g17 fun b18 => zlen M b18 fun n19 => ((0 < n19 → wp_J3_grow_L20 D post o k n a0 n19 M) ∧ (¬ 0 < n19 → (zgR M o 26 1 fun g20 => ((g20 = (some (D.2.2.2 1)) → (wp_J0_max D (fun r21 M => (znewA D M 5 r21 k n fun b24 M => (zp D M o 26 1 (.ref b24) fun M => post (some b24) M))) (10 : Int32) a0 M)) ∧ (¬ g20 = (some (D.2.2.2 1)) → wp_J3_grow_L20 D post o k n a0 n19 M))))))))
set_option maxHeartbeats 4000000 in
set_option maxRecDepth 100000 in
theorem w_J3_grow {l : Launch} {D : zD} {post : Option Nat → zM → Prop} (hlt : l.stackTraces = false) {k : Nat} {n : Nat} {o : Nat} {a0 : Int32} {M : zM} (hw : wp_J3_grow D post k n o a0 M) : zMet l D yJ3_grow (ws_ yJ3_grow cJ3_grow 4 (some (.array (.object "java/lang/Object")))) (rm_J3_grow k n) k n [.ref o, .int a0] M zR post (fun _ _ => False) := by
  unfold wp_J3_grow at hw
  have hlv : lv_args 0 [.ref o, .int a0] = [(0, .ref o), (1, .int a0)] := (zargs1 rfl (zargs1 rfl rfl))
  refine z_ofW hlt (by decide) (Nat.le_trans (zsl1 rfl (zsl1 rfl (Nat.le_refl 0 : (lg_sl []).length ≤ 0))) (Nat.le_of_ble_eq_true rfl)) hlv ?_
  intro p e s m args below meth c ls hG hZ hl
  have hC := hG.1
  have hx := hC.x
  have hb := hC.b
  have hown := hC.o
  have hts := hC.ts
  have hlt := hG.2.2.2.2.2
  obtain ⟨cells, hce⟩ : ∃ z : Nat, z = 0 := ⟨0, rfl⟩
  obtain ⟨slots, hsl⟩ : ∃ z : Nat, z = 0 := ⟨0, rfl⟩
  refine W.cs (cells' := cells) (slots' := slots) hce.symm hsl.symm ?_
  have hk : cells + k ≤ k := by omega
  have hn : slots + n ≤ n := by omega
  clear hce hsl
  refine lv_aload_n hx hb dJ3_grow_0 rfl (lv_at hl 0 rfl) ?_
  obtain ⟨fs0, g28, hM0, hx0, hw⟩ := hw
  refine z_get hC hZ hM0 zc26 1 (by decide) q204 (fun _ h9 => h9) hx0 dJ3_grow_1 ?_
  obtain ⟨b29, hr0, hw⟩ := hw
  subst hr0
  obtain ⟨y0, hM0, hy0, hw⟩ := hw
  refine z_alen hC hZ hM0 hy0 dJ3_grow_4 ?_
  generalize Int32.ofNat y0.2.1 = n30 at hw ⊢
  refine lv_istore_n (i := 2) (lv' := [(2, .int n30), (0, .ref o), (1, .int a0)]) hx hb dJ3_grow_5 rfl hl (by decide) rfl (fun ls hl1 => ?_)
  replace hl := hl1
  clear hl1
  refine lv_iload_n hx hb dJ3_grow_6 rfl (lv_at hl 0 rfl) ?_
  refine lv_if_gt (tgt := 20) hx hb dJ3_grow_7 (by decide) (fun c38 => ?_) (fun c38 => ?_)
  · replace hw := hw.1 c38
    exact wk_J3_grow_L20 hG _ _ _ _ _ hk hn hZ (lv_sub hl [1, 2, 0] rfl) hw
  · replace hw := hw.2 c38
    refine lv_aload_n hx hb dJ3_grow_10 rfl (lv_at hl 1 rfl) ?_
    obtain ⟨fs0, g31, hM0, hx0, hw⟩ := hw
    refine z_get hC hZ hM0 zc26 1 (by decide) q204 (fun _ h9 => h9) hx0 dJ3_grow_11 ?_
    refine z_gets hC hZ hC.K.2.2.2.2.2.1.2.1 q202 (fun _ h9 => h9) dJ3_grow_14 ?_
    refine lv_acmp_eq (rx := g31) (ry := (some (D.2.2.2 1))) (tgt := 45) hx hb dJ3_grow_17 (by decide) (fun c37 => ?_) (fun c37 => ?_)
    · replace hw := hw.1 c37
      refine lv_aload_n hx hb dJ3_grow_45 rfl (lv_at hl 1 rfl) ?_
      refine lv_bipush (v := 10) hx hb dJ3_grow_46 (by decide) ?_
      refine lv_iload_n hx hb dJ3_grow_48 rfl (lv_at hl 2 rfl) ?_
      refine z_callI hZ (vx_runS (As := [.int (10 : Int32), .int a0]) (rest := [.ref o]) hC.fix (w_J0_max hlt hw) (va_cwS 2 hts (lw_S q285 q232 q69 q233) rfl rfl rfl dd_J0_max ⟨Nat.le_of_ble_eq_true rfl, Nat.le_of_ble_eq_true rfl⟩) (z_preS hC hZ) rfl rfl hl.1 rfl (lv_room (Nat.le_trans (zrm1 rfl zrm0) (Nat.le_of_ble_eq_true rfl))) dJ3_grow_49 ⟨(show cells + 0 ≤ k by omega), (show slots + 0 ≤ n by omega)⟩) (fun r32 M H locs hw1 hZ => ?_) (fun q M H locs ci fs E T9 N9 hw hZ hc1 hM1 hb1 => False.elim hw)
      replace hw := hw1
      clear hw1
      refine W.cs (cells' := cells) (slots' := slots) rfl rfl ?_
      obtain ⟨hx1, hx2, hk1, hn1, hw⟩ := hw
      refine z_newq (k := 5) hC hZ q286 (by decide) rfl hx1 rfl (z_bytes hx2 (by decide)) (show cells + 1 ≤ k by omega) (show slots + r32.toNatClampNeg ≤ n by omega) dJ3_grow_52 (fun b35 H hq0 hq1 hZ => ?_)
      replace hw := hw b35 hq0 hq1
      replace hZ : zS D (zu M b35 (some (.inl (5, zna 5 r32.toNatClampNeg)))) _ _ := hZ
      refine W.cs (cells' := cells + 1) (slots' := slots + r32.toNatClampNeg) rfl rfl ?_
      generalize zu M _ _ = M at hw hZ
      have hk : cells + 1 + (k - 1) ≤ k := by omega
      have hn : slots + r32.toNatClampNeg + (n - r32.toNatClampNeg) ≤ n := by omega
      generalize cells + 1 = cells at hk ⊢
      generalize slots + r32.toNatClampNeg = slots at hn ⊢
      clear hk1 hn1 hx1 hx2
      refine lv_dup_x1 hx hb dJ3_grow_55 rfl rfl ?_
      obtain ⟨fs0, hM0, hb0, hk0, hw⟩ := hw
      refine z_put hC hZ hM0 hb0 zc26 1 (by decide) q204 (fun _ h9 => h9) (by decide) rfl rfl hk0 dJ3_grow_56 (fun H locs hZ => ?_)
      generalize zu M _ _ = M at hw hZ
      exact z_aret (r := (some b35)) hG (Or.inr ⟨_, rfl⟩) hZ (by omega) (by omega) hw dJ3_grow_59
    · replace hw := hw.2 c37
      exact wk_J3_grow_L20 hG _ _ _ _ _ hk hn hZ (lv_sub hl [1, 2, 0] rfl) hw
abbrev rm_J3_grow_2 (K N : Nat) : Room := { frames := 5, cells := K, slots := N, locals := 152 }
def wp_J3_grow_2 (D : zD) (post : Option Nat → zM → Prop) (k : Nat) (n : Nat) (o : Nat) (M : zM) : Prop :=
    (zgI M o 26 2 fun g1 => ((zis M o [26] ∧ (∃ k3 n4, k3 ≤ k ∧ n4 ≤ n ∧ wp_J3_grow D (fun r2 M => post r2 M) k3 n4 o (g1 + (1 : Int32)) M))))
set_option maxHeartbeats 4000000 in
set_option maxRecDepth 100000 in
theorem w_J3_grow_2 {l : Launch} {D : zD} {post : Option Nat → zM → Prop} (hlt : l.stackTraces = false) {k : Nat} {n : Nat} {o : Nat} {M : zM} (hw : wp_J3_grow_2 D post k n o M) : zMet l D yJ3_grow_2 (ws_ yJ3_grow_2 cJ3_grow_2 1 (some (.array (.object "java/lang/Object")))) (rm_J3_grow_2 k n) k n [.ref o] M zR post (fun _ _ => False) := by
  unfold wp_J3_grow_2 at hw
  have hlv : lv_args 0 [.ref o] = [(0, .ref o)] := (zargs1 rfl rfl)
  refine z_ofW hlt (by decide) (Nat.le_trans (zsl1 rfl (Nat.le_refl 0 : (lg_sl []).length ≤ 0)) (Nat.le_of_ble_eq_true rfl)) hlv ?_
  intro p e s m args below meth c ls hG hZ hl
  have hC := hG.1
  have hx := hC.x
  have hb := hC.b
  have hown := hC.o
  have hts := hC.ts
  have hlt := hG.2.2.2.2.2
  obtain ⟨cells, hce⟩ : ∃ z : Nat, z = 0 := ⟨0, rfl⟩
  obtain ⟨slots, hsl⟩ : ∃ z : Nat, z = 0 := ⟨0, rfl⟩
  refine W.cs (cells' := cells) (slots' := slots) hce.symm hsl.symm ?_
  have hk : cells + k ≤ k := by omega
  have hn : slots + n ≤ n := by omega
  clear hce hsl
  refine lv_aload_n hx hb dJ3_grow_2_0 rfl (lv_at hl 0 rfl) ?_
  refine lv_aload_n hx hb dJ3_grow_2_1 rfl (lv_at hl 0 rfl) ?_
  obtain ⟨fs0, g5, hM0, hx0, hw⟩ := hw
  refine z_get hC hZ hM0 zc26 2 (by decide) q207 (fun _ h9 => h9) hx0 dJ3_grow_2_2 ?_
  refine lv_iconst (v := 1) hx hb dJ3_grow_2_5 (by decide) ?_
  refine lv_iadd hx hb dJ3_grow_2_6 ?_
  obtain ⟨⟨ci0, fs0, hci0, hM0⟩, hw⟩ := hw
  obtain ⟨k7, n8, hk1, hn1, hw⟩ := hw
  obtain rfl : ci0 = 26 := List.mem_singleton.mp hci0
  refine z_callR hZ (vx_runV (As := [.int (g5 + (1 : Int32))]) (rest := []) hC.fix (w_J3_grow hlt hw) (cwV 1 hts (lw_V q224 q226 qs0 q74 q227) rfl rfl rfl ⟨rfl, dd_J3_grow⟩ ⟨Nat.le_of_ble_eq_true rfl, Nat.le_of_ble_eq_true rfl⟩) (z_preV hC hZ hM0 zc26) rfl rfl hl.1 rfl (lv_room (Nat.zero_le _)) dJ3_grow_2_7 ⟨(show cells + k7 ≤ k by omega), (show slots + n8 ≤ n by omega)⟩) (fun r6 M H locs hw1 hZ => ?_) (fun q M H locs ci fs E T9 N9 hw hZ hc1 hM1 hb1 => False.elim hw)
  replace hw := hw1
  clear hw1
  have hk : cells + k7 + (k - k7) ≤ k := by omega
  have hn : slots + n8 + (n - n8) ≤ n := by omega
  generalize cells + k7 = cells at hk ⊢
  generalize slots + n8 = slots at hn ⊢
  clear hk1 hn1
  exact z_aret (r := r6) hG (Or.inr ⟨_, rfl⟩) hZ (by omega) (by omega) hw dJ3_grow_2_10
abbrev rm_J3_add_2 (K N : Nat) : Room := { frames := 6, cells := K, slots := N, locals := 172 }
def wp_J3_add_2_L11 (D : zD) (post : Unit → zM → Prop) (o : Nat) (k : Nat) (n : Nat) (x1 : Option Nat) (x2 : Option Nat) (x3 : Int32) (M : zM) : Prop :=
    ((zd x2 fun b1 => zsR D M b1 5 x3 x1 fun M => (zp D M o 26 2 (.int (x3 + (1 : Int32))) fun M => post () M)))
set_option maxHeartbeats 4000000 in
set_option maxRecDepth 100000 in
theorem wk_J3_add_2_L11 {p : Program} {l : Launch} {e : Env} {s : State} {m : MethodId} {args : Array Value} {below : List Frame} {meth : Method} {c : Code} {D : zD} {post : Unit → zM → Prop} {K N : Nat} {o : Nat} (hG : zGx p l s m args meth c cJ3_add_2 4 "java/util/ArrayList" D (none) "add" []) : ∀ {H : Heap} {locs : List Loc} {cells slots : Nat} {ls : Array Slot} (k : Nat) (n : Nat) (x1 : Option Nat) (x2 : Option Nat) (x3 : Int32) (M : zM), cells + k ≤ K → slots + n ≤ N → zS D M H locs → lv_has ls 4 [(0, .ref o), (1, va_rf x1), (2, va_rf x2), (3, .int x3)] → wp_J3_add_2_L11 D post o k n x1 x2 x3 M → W p l e (rm_J3_add_2 K N) s m args below meth c H locs cells slots (vx_MQ below (zQ D zU post) (zX D (fun _ _ => False)) args s K N (zA D)) (F0 m 11 ls []) := by
  have hC := hG.1
  have hx := hC.x
  have hb := hC.b
  have hown := hC.o
  have hts := hC.ts
  have hlt := hG.2.2.2.2.2
  intro H locs cells slots ls k n x1 x2 x3 M hk hn hZ hl hw
  refine z_aload_n hC dJ3_add_2_11 rfl (lv_at hl 2 rfl) ?_
  refine lv_iload_n hx hb dJ3_add_2_12 rfl (lv_at hl 3 rfl) ?_
  refine z_aload_n hC dJ3_add_2_13 rfl (lv_at hl 1 rfl) ?_
  obtain ⟨b3, hr0, hw⟩ := hw
  subst hr0
  obtain ⟨n0, f0, hM0, hb0, hi0, hv0, hw⟩ := hw
  refine z_aastO (r := x1) hC hZ hM0 hb0 rfl hv0 hi0 dJ3_add_2_14 (fun H locs hZ => ?_)
  generalize zu M _ _ = M at hw hZ
  refine lv_aload_n hx hb dJ3_add_2_15 rfl (lv_at hl 0 rfl) ?_
  refine lv_iload_n hx hb dJ3_add_2_16 rfl (lv_at hl 3 rfl) ?_
  refine lv_iconst (v := 1) hx hb dJ3_add_2_17 (by decide) ?_
  refine lv_iadd hx hb dJ3_add_2_18 ?_
  obtain ⟨fs0, hM0, hb0, hk0, hw⟩ := hw
  refine z_put hC hZ hM0 hb0 zc26 2 (by decide) q207 (fun _ h9 => h9) (by decide) rfl rfl hk0 dJ3_add_2_19 (fun H locs hZ => ?_)
  generalize zu M _ _ = M at hw hZ
  exact z_vret hG hZ (by omega) (by omega) hw dJ3_add_2_22
def wp_J3_add_2 (D : zD) (post : Unit → zM → Prop) (k : Nat) (n : Nat) (o : Nat) (a0 : Option Nat) (a1 : Option Nat) (a2 : Int32) (M : zM) : Prop :=
    ((zd a1 fun b5 => zlen M b5 fun n6 => ((¬ a2 = n6 → wp_J3_add_2_L11 D post o k n a0 (some b5) a2 M) ∧ (a2 = n6 → ((zis M o [26] ∧ (∃ k8 n9, k8 ≤ k ∧ n9 ≤ n ∧ wp_J3_grow_2 D (fun r7 M => wp_J3_add_2_L11 D post o (k - k8) (n - n9) a0 r7 a2 M) k8 n9 o M)))))))
set_option maxHeartbeats 4000000 in
set_option maxRecDepth 100000 in
theorem w_J3_add_2 {l : Launch} {D : zD} {post : Unit → zM → Prop} (hlt : l.stackTraces = false) {k : Nat} {n : Nat} {o : Nat} {a0 : Option Nat} {a1 : Option Nat} {a2 : Int32} {M : zM} (hw : wp_J3_add_2 D post k n o a0 a1 a2 M) : zMet l D yJ3_add_2 (ws_ yJ3_add_2 cJ3_add_2 4 (none)) (rm_J3_add_2 k n) k n [.ref o, va_rf a0, va_rf a1, .int a2] M zU post (fun _ _ => False) := by
  unfold wp_J3_add_2 at hw
  have hlv : lv_args 0 [.ref o, va_rf a0, va_rf a1, .int a2] = [(0, .ref o), (1, va_rf a0), (2, va_rf a1), (3, .int a2)] := (zargs1 rfl (zargs1 (zcat _) (zargs1 (zcat _) (zargs1 rfl rfl))))
  refine z_ofW hlt (by decide) (Nat.le_trans (zsl1 rfl (zsl1 (zcat _) (zsl1 (zcat _) (zsl1 rfl (Nat.le_refl 0 : (lg_sl []).length ≤ 0))))) (Nat.le_of_ble_eq_true rfl)) hlv ?_
  intro p e s m args below meth c ls hG hZ hl
  have hC := hG.1
  have hx := hC.x
  have hb := hC.b
  have hown := hC.o
  have hts := hC.ts
  have hlt := hG.2.2.2.2.2
  obtain ⟨cells, hce⟩ : ∃ z : Nat, z = 0 := ⟨0, rfl⟩
  obtain ⟨slots, hsl⟩ : ∃ z : Nat, z = 0 := ⟨0, rfl⟩
  refine W.cs (cells' := cells) (slots' := slots) hce.symm hsl.symm ?_
  have hk : cells + k ≤ k := by omega
  have hn : slots + n ≤ n := by omega
  clear hce hsl
  refine lv_iload_n hx hb dJ3_add_2_0 rfl (lv_at hl 3 rfl) ?_
  refine z_aload_n hC dJ3_add_2_1 rfl (lv_at hl 2 rfl) ?_
  obtain ⟨b11, hr0, hw⟩ := hw
  subst hr0
  obtain ⟨y0, hM0, hy0, hw⟩ := hw
  refine z_alen hC hZ hM0 hy0 dJ3_add_2_2 ?_
  generalize Int32.ofNat y0.2.1 = n12 at hw ⊢
  refine lv_icmp_ne (tgt := 11) hx hb dJ3_add_2_3 (by decide) (fun c16 => ?_) (fun c16 => ?_)
  · replace hw := hw.1 c16
    exact wk_J3_add_2_L11 hG _ _ _ _ _ _ hk hn hZ (lv_sub hl [0, 1, 2, 3] rfl) hw
  · replace hw := hw.2 c16
    refine lv_aload_n hx hb dJ3_add_2_6 rfl (lv_at hl 0 rfl) ?_
    obtain ⟨⟨ci0, fs0, hci0, hM0⟩, hw⟩ := hw
    obtain ⟨k14, n15, hk1, hn1, hw⟩ := hw
    obtain rfl : ci0 = 26 := List.mem_singleton.mp hci0
    refine z_callR hZ (vx_runV (As := []) (rest := []) hC.fix (w_J3_grow_2 hlt hw) (cwV 0 hts (lw_V q345 q347 qs2 q74 q348) rfl rfl rfl ⟨rfl, dd_J3_grow_2⟩ ⟨Nat.le_of_ble_eq_true rfl, Nat.le_of_ble_eq_true rfl⟩) (z_preV hC hZ hM0 zc26) rfl rfl hl.1 rfl (lv_room (Nat.zero_le _)) dJ3_add_2_7 ⟨(show cells + k14 ≤ k by omega), (show slots + n15 ≤ n by omega)⟩) (fun r13 M H locs hw1 hZ => ?_) (fun q M H locs ci fs E T9 N9 hw hZ hc1 hM1 hb1 => False.elim hw)
    replace hw := hw1
    clear hw1
    have hk : cells + k14 + (k - k14) ≤ k := by omega
    have hn : slots + n15 + (n - n15) ≤ n := by omega
    generalize cells + k14 = cells at hk ⊢
    generalize slots + n15 = slots at hn ⊢
    clear hk1 hn1
    refine z_astore_n (i := 2) (lv' := [(2, va_rf r13), (0, .ref o), (1, va_rf a0), (3, .int a2)]) hC dJ3_add_2_10 rfl hl (by decide) (zfc rfl (zfk rfl (zfk (zfa rfl) (zfd rfl (zfk rfl rfl))))) (fun ls hl1 => ?_)
    replace hl := hl1
    clear hl1
    exact wk_J3_add_2_L11 hG _ _ _ _ _ _ hk hn hZ (lv_sub hl [1, 2, 0, 3] rfl) hw
abbrev rm_J3_add (K N : Nat) : Room := { frames := 7, cells := K, slots := N, locals := 195 }
def wp_J3_add (D : zD) (post : Int32 → zM → Prop) (k : Nat) (n : Nat) (o : Nat) (a0 : Option Nat) (M : zM) : Prop :=
    (zgI M o 26 0 fun g1 => (zp D M o 26 0 (.int (g1 + (1 : Int32))) fun M => (zgR M o 26 1 fun g2 => (zgI M o 26 2 fun g3 => ((zis M o [26] ∧ (∃ k5 n6, k5 ≤ k ∧ n6 ≤ n ∧ wp_J3_add_2 D (fun _ M => (narrow .boolean (.int (1 : Int32)) = .int (1 : Int32) ∧ post (1 : Int32) M)) k5 n6 o a0 g2 g3 M)))))))
set_option maxHeartbeats 4000000 in
set_option maxRecDepth 100000 in
theorem w_J3_add {l : Launch} {D : zD} {post : Int32 → zM → Prop} (hlt : l.stackTraces = false) {k : Nat} {n : Nat} {o : Nat} {a0 : Option Nat} {M : zM} (hw : wp_J3_add D post k n o a0 M) : zMet l D yJ3_add (ws_ yJ3_add cJ3_add 2 (some .boolean)) (rm_J3_add k n) k n [.ref o, va_rf a0] M zI post (fun _ _ => False) := by
  unfold wp_J3_add at hw
  have hlv : lv_args 0 [.ref o, va_rf a0] = [(0, .ref o), (1, va_rf a0)] := (zargs1 rfl (zargs1 (zcat _) rfl))
  refine z_ofW hlt (by decide) (Nat.le_trans (zsl1 rfl (zsl1 (zcat _) (Nat.le_refl 0 : (lg_sl []).length ≤ 0))) (Nat.le_of_ble_eq_true rfl)) hlv ?_
  intro p e s m args below meth c ls hG hZ hl
  have hC := hG.1
  have hx := hC.x
  have hb := hC.b
  have hown := hC.o
  have hts := hC.ts
  have hlt := hG.2.2.2.2.2
  obtain ⟨cells, hce⟩ : ∃ z : Nat, z = 0 := ⟨0, rfl⟩
  obtain ⟨slots, hsl⟩ : ∃ z : Nat, z = 0 := ⟨0, rfl⟩
  refine W.cs (cells' := cells) (slots' := slots) hce.symm hsl.symm ?_
  have hk : cells + k ≤ k := by omega
  have hn : slots + n ≤ n := by omega
  clear hce hsl
  refine lv_aload_n hx hb dJ3_add_0 rfl (lv_at hl 0 rfl) ?_
  refine lv_dup hx hb dJ3_add_1 rfl ?_
  obtain ⟨fs0, g8, hM0, hx0, hw⟩ := hw
  refine z_get hC hZ hM0 zc26 0 (by decide) q211 (u_same (hts _ q210)) hx0 dJ3_add_2 ?_
  refine lv_iconst (v := 1) hx hb dJ3_add_5 (by decide) ?_
  refine lv_iadd hx hb dJ3_add_6 ?_
  obtain ⟨fs0, hM0, hb0, hk0, hw⟩ := hw
  refine z_put hC hZ hM0 hb0 zc26 0 (by decide) q211 (u_same (hts _ q210)) (by decide) rfl rfl hk0 dJ3_add_7 (fun H locs hZ => ?_)
  generalize zu M _ _ = M at hw hZ
  refine lv_aload_n hx hb dJ3_add_10 rfl (lv_at hl 0 rfl) ?_
  refine z_aload_n hC dJ3_add_11 rfl (lv_at hl 1 rfl) ?_
  refine lv_aload_n hx hb dJ3_add_12 rfl (lv_at hl 0 rfl) ?_
  obtain ⟨fs0, g9, hM0, hx0, hw⟩ := hw
  refine z_get hC hZ hM0 zc26 1 (by decide) q204 (fun _ h9 => h9) hx0 dJ3_add_13 ?_
  refine lv_aload_n hx hb dJ3_add_16 rfl (lv_at hl 0 rfl) ?_
  obtain ⟨fs0, g10, hM0, hx0, hw⟩ := hw
  refine z_get hC hZ hM0 zc26 2 (by decide) q207 (fun _ h9 => h9) hx0 dJ3_add_17 ?_
  obtain ⟨⟨ci0, fs0, hci0, hM0⟩, hw⟩ := hw
  obtain ⟨k12, n13, hk1, hn1, hw⟩ := hw
  obtain rfl : ci0 = 26 := List.mem_singleton.mp hci0
  refine z_callU hZ (vx_runV (As := [va_rf a0, va_rf g9, .int g10]) (rest := []) hC.fix (w_J3_add_2 hlt hw) (cwV 3 hts (lw_V q341 q343 qs1 q74 q344) rfl rfl rfl ⟨rfl, dd_J3_add_2⟩ ⟨Nat.le_of_ble_eq_true rfl, Nat.le_of_ble_eq_true rfl⟩) (z_preV hC hZ hM0 zc26) rfl rfl hl.1 rfl (lv_room (Nat.zero_le _)) dJ3_add_20 ⟨(show cells + k12 ≤ k by omega), (show slots + n13 ≤ n by omega)⟩) (fun r11 M H locs hw1 hZ => ?_) (fun q M H locs ci fs E T9 N9 hw hZ hc1 hM1 hb1 => False.elim hw)
  replace hw := hw1
  clear hw1
  have hk : cells + k12 + (k - k12) ≤ k := by omega
  have hn : slots + n13 + (n - n13) ≤ n := by omega
  generalize cells + k12 = cells at hk ⊢
  generalize slots + n13 = slots at hn ⊢
  clear hk1 hn1
  refine lv_iconst (v := 1) hx hb dJ3_add_23 (by decide) ?_
  exact z_zret hG hZ (by omega) (by omega) hw.1 hw.2 dJ3_add_24
abbrev rm_J3_clear : Room := { frames := 1, cells := 0, slots := 0, locals := 64 }
def wp_J3_clear_L27 (D : zD) (post : Unit → zM → Prop) (o : Nat) : Nat → Option Nat → Int32 → Int32 → zM → Prop
  | 0 => fun _ _ _ _ => False
  | f + 1 => fun x1 x2 x3 M =>
    ((x2 ≤ x3 → post () M) ∧ (¬ x2 ≤ x3 → ((zd x1 fun b1 => zsR D M b1 5 x3 none fun M => wp_J3_clear_L27 D post o f (some b1) x2 (x3 + 1) M))))
set_option maxHeartbeats 4000000 in
set_option maxRecDepth 100000 in
theorem wk_J3_clear_L27 {p : Program} {l : Launch} {e : Env} {s : State} {m : MethodId} {args : Array Value} {below : List Frame} {meth : Method} {c : Code} {D : zD} {post : Unit → zM → Prop} {o : Nat} (hG : zGx p l s m args meth c cJ3_clear 4 "java/util/ArrayList" D (none) "clear" []) : ∀ (f : Nat), ∀ {H : Heap} {locs : List Loc} {cells slots : Nat} {ls : Array Slot} (x1 : Option Nat) (x2 : Int32) (x3 : Int32) (M : zM), cells ≤ 0 → slots ≤ 0 → zS D M H locs → lv_has ls 4 [(1, va_rf x1), (2, .int x2), (3, .int x3)] → wp_J3_clear_L27 D post o f x1 x2 x3 M → W p l e rm_J3_clear s m args below meth c H locs cells slots (vx_MQ below (zQ D zU post) (zX D (fun _ _ => False)) args s 0 0 (zA D)) (F0 m 27 ls []) := by
  have hC := hG.1
  have hx := hC.x
  have hb := hC.b
  have hown := hC.o
  have hts := hC.ts
  have hlt := hG.2.2.2.2.2
  intro f
  induction f with
  | zero =>
    intro H locs cells slots ls x1 x2 x3 M hk hn hZ hl hw
    exact absurd hw (fun h => h)
  | succ f ih =>
    intro H locs cells slots ls x1 x2 x3 M hk hn hZ hl hw
    refine lv_iload_n hx hb dJ3_clear_27 rfl (lv_at hl 2 rfl) ?_
    refine lv_iload_n hx hb dJ3_clear_28 rfl (lv_at hl 1 rfl) ?_
    refine lv_icmp_ge (tgt := 42) hx hb dJ3_clear_29 (by decide) (fun c4 => ?_) (fun c4 => ?_)
    · replace hw := hw.1 c4
      exact z_vret hG hZ hk hn hw dJ3_clear_42
    · replace hw := hw.2 c4
      refine z_aload_n hC dJ3_clear_32 rfl (lv_at hl 0 rfl) ?_
      refine lv_iload_n hx hb dJ3_clear_33 rfl (lv_at hl 2 rfl) ?_
      refine z_null hC dJ3_clear_34 ?_
      obtain ⟨b3, hr0, hw⟩ := hw
      subst hr0
      obtain ⟨n0, f0, hM0, hb0, hi0, hv0, hw⟩ := hw
      refine z_aastO (r := none) hC hZ hM0 hb0 rfl hv0 hi0 dJ3_clear_35 (fun H locs hZ => ?_)
      generalize zu M _ _ = M at hw hZ
      refine lv_iinc (v := (x3 + 1)) (lv' := [(3, .int (x3 + 1)), (1, .ref b3), (2, .int x2)]) hx hb dJ3_clear_36 hl (k := 2) rfl rfl (by decide) rfl (fun ls hl1 => ?_)
      replace hl := hl1
      clear hl1
      refine lv_goto (tgt := 27) hx hb dJ3_clear_39 (by decide) ?_
      exact ih _ _ _ _ hk hn hZ (lv_sub hl [1, 2, 0] rfl) hw
def wp_J3_clear (D : zD) (post : Unit → zM → Prop) (o : Nat) (M : zM) : Prop :=
    (zgI M o 26 0 fun g5 => (zp D M o 26 0 (.int (g5 + (1 : Int32))) fun M => (zgR M o 26 1 fun g6 => (zgI M o 26 2 fun g7 => (zp D M o 26 2 (.int (0 : Int32)) fun M => (∃ f, wp_J3_clear_L27 D post o f g6 g7 (0 : Int32) M))))))
set_option maxHeartbeats 4000000 in
set_option maxRecDepth 100000 in
theorem w_J3_clear {l : Launch} {D : zD} {post : Unit → zM → Prop} (hlt : l.stackTraces = false) {o : Nat} {M : zM} (hw : wp_J3_clear D post o M) : zMet l D yJ3_clear (ws_ yJ3_clear cJ3_clear 4 (none)) rm_J3_clear 0 0 [.ref o] M zU post (fun _ _ => False) := by
  unfold wp_J3_clear at hw
  have hlv : lv_args 0 [.ref o] = [(0, .ref o)] := (zargs1 rfl rfl)
  refine z_ofW hlt (by decide) (Nat.le_trans (zsl1 rfl (Nat.le_refl 0 : (lg_sl []).length ≤ 0)) (Nat.le_of_ble_eq_true rfl)) hlv ?_
  intro p e s m args below meth c ls hG hZ hl
  have hC := hG.1
  have hx := hC.x
  have hb := hC.b
  have hown := hC.o
  have hts := hC.ts
  have hlt := hG.2.2.2.2.2
  obtain ⟨cells, hce⟩ : ∃ z : Nat, z = 0 := ⟨0, rfl⟩
  obtain ⟨slots, hsl⟩ : ∃ z : Nat, z = 0 := ⟨0, rfl⟩
  refine W.cs (cells' := cells) (slots' := slots) hce.symm hsl.symm ?_
  have hk : cells ≤ 0 := Nat.le_of_eq hce
  have hn : slots ≤ 0 := Nat.le_of_eq hsl
  clear hce hsl
  refine lv_aload_n hx hb dJ3_clear_0 rfl (lv_at hl 0 rfl) ?_
  refine lv_dup hx hb dJ3_clear_1 rfl ?_
  obtain ⟨fs0, g10, hM0, hx0, hw⟩ := hw
  refine z_get hC hZ hM0 zc26 0 (by decide) q211 (u_same (hts _ q210)) hx0 dJ3_clear_2 ?_
  refine lv_iconst (v := 1) hx hb dJ3_clear_5 (by decide) ?_
  refine lv_iadd hx hb dJ3_clear_6 ?_
  obtain ⟨fs0, hM0, hb0, hk0, hw⟩ := hw
  refine z_put hC hZ hM0 hb0 zc26 0 (by decide) q211 (u_same (hts _ q210)) (by decide) rfl rfl hk0 dJ3_clear_7 (fun H locs hZ => ?_)
  generalize zu M _ _ = M at hw hZ
  refine lv_aload_n hx hb dJ3_clear_10 rfl (lv_at hl 0 rfl) ?_
  obtain ⟨fs0, g11, hM0, hx0, hw⟩ := hw
  refine z_get hC hZ hM0 zc26 1 (by decide) q204 (fun _ h9 => h9) hx0 dJ3_clear_11 ?_
  refine z_astore_n (i := 1) (lv' := [(1, va_rf g11), (0, .ref o)]) hC dJ3_clear_14 rfl hl (by decide) rfl (fun ls hl1 => ?_)
  replace hl := hl1
  clear hl1
  refine lv_aload_n hx hb dJ3_clear_15 rfl (lv_at hl 1 rfl) ?_
  obtain ⟨fs0, g12, hM0, hx0, hw⟩ := hw
  refine z_get hC hZ hM0 zc26 2 (by decide) q207 (fun _ h9 => h9) hx0 dJ3_clear_16 ?_
  refine lv_istore_n (i := 2) (lv' := [(2, .int g12), (1, va_rf g11), (0, .ref o)]) hx hb dJ3_clear_19 rfl hl (by decide) (zfc rfl (zfk (zfa rfl) (zfk rfl rfl))) (fun ls hl1 => ?_)
  replace hl := hl1
  clear hl1
  refine lv_aload_n hx hb dJ3_clear_20 rfl (lv_at hl 2 rfl) ?_
  refine lv_iconst (v := 0) hx hb dJ3_clear_21 (by decide) ?_
  refine lv_dup_x1 hx hb dJ3_clear_22 rfl rfl ?_
  obtain ⟨fs0, hM0, hb0, hk0, hw⟩ := hw
  refine z_put hC hZ hM0 hb0 zc26 2 (by decide) q207 (fun _ h9 => h9) (by decide) rfl rfl hk0 dJ3_clear_23 (fun H locs hZ => ?_)
  generalize zu M _ _ = M at hw hZ
  refine lv_istore_n (i := 3) (lv' := [(3, .int (0 : Int32)), (2, .int g12), (1, va_rf g11), (0, .ref o)]) hx hb dJ3_clear_26 rfl hl (by decide) rfl (fun ls hl1 => ?_)
  replace hl := hl1
  clear hl1
  obtain ⟨f1, hw⟩ := hw
  exact wk_J3_clear_L27 hG f1 _ _ _ _ hk hn hZ (lv_sub hl [2, 1, 0] rfl) hw
abbrev rm_J3_elementData : Room := { frames := 1, cells := 0, slots := 0, locals := 64 }
def wp_J3_elementData (D : zD) (post : Option Nat → zM → Prop) (o : Nat) (a0 : Int32) (M : zM) : Prop :=
    (zgR M o 26 1 fun g1 => ((zd g1 fun b2 => zaR M b2 5 a0 fun v3 => post v3 M)))
set_option maxHeartbeats 4000000 in
set_option maxRecDepth 100000 in
theorem w_J3_elementData {l : Launch} {D : zD} {post : Option Nat → zM → Prop} (hlt : l.stackTraces = false) {o : Nat} {a0 : Int32} {M : zM} (hw : wp_J3_elementData D post o a0 M) : zMet l D yJ3_elementData (ws_ yJ3_elementData cJ3_elementData 2 (some (.object "java/lang/Object"))) rm_J3_elementData 0 0 [.ref o, .int a0] M zR post (fun _ _ => False) := by
  unfold wp_J3_elementData at hw
  have hlv : lv_args 0 [.ref o, .int a0] = [(0, .ref o), (1, .int a0)] := (zargs1 rfl (zargs1 rfl rfl))
  refine z_ofW hlt (by decide) (Nat.le_trans (zsl1 rfl (zsl1 rfl (Nat.le_refl 0 : (lg_sl []).length ≤ 0))) (Nat.le_of_ble_eq_true rfl)) hlv ?_
  intro p e s m args below meth c ls hG hZ hl
  have hC := hG.1
  have hx := hC.x
  have hb := hC.b
  have hown := hC.o
  have hts := hC.ts
  have hlt := hG.2.2.2.2.2
  obtain ⟨cells, hce⟩ : ∃ z : Nat, z = 0 := ⟨0, rfl⟩
  obtain ⟨slots, hsl⟩ : ∃ z : Nat, z = 0 := ⟨0, rfl⟩
  refine W.cs (cells' := cells) (slots' := slots) hce.symm hsl.symm ?_
  have hk : cells ≤ 0 := Nat.le_of_eq hce
  have hn : slots ≤ 0 := Nat.le_of_eq hsl
  clear hce hsl
  refine lv_aload_n hx hb dJ3_elementData_0 rfl (lv_at hl 0 rfl) ?_
  obtain ⟨fs0, g4, hM0, hx0, hw⟩ := hw
  refine z_get hC hZ hM0 zc26 1 (by decide) q204 (fun _ h9 => h9) hx0 dJ3_elementData_1 ?_
  refine lv_iload_n hx hb dJ3_elementData_4 rfl (lv_at hl 1 rfl) ?_
  obtain ⟨b5, hr0, hw⟩ := hw
  subst hr0
  obtain ⟨n0, f0, v6, hM0, hi0, hr0, hw⟩ := hw
  refine z_aald hC hZ hM0 (by decide) rfl hi0 hr0 dJ3_elementData_5 ?_
  exact z_aret (r := v6) hG (Or.inl ⟨_, rfl⟩) hZ hk hn hw dJ3_elementData_6
abbrev rm_J3_ensureCapacity (K N : Nat) : Room := { frames := 5, cells := K, slots := N, locals := 152 }
def wp_J3_ensureCapacity_L41 (D : zD) (post : Unit → zM → Prop) (o : Nat) (k : Nat) (n : Nat) (M : zM) : Prop :=
    post () M
set_option maxHeartbeats 4000000 in
set_option maxRecDepth 100000 in
theorem wk_J3_ensureCapacity_L41 {p : Program} {l : Launch} {e : Env} {s : State} {m : MethodId} {args : Array Value} {below : List Frame} {meth : Method} {c : Code} {D : zD} {post : Unit → zM → Prop} {K N : Nat} {o : Nat} (hG : zGx p l s m args meth c cJ3_ensureCapacity 2 "java/util/ArrayList" D (none) "ensureCapacity" []) : ∀ {H : Heap} {locs : List Loc} {cells slots : Nat} {ls : Array Slot} (k : Nat) (n : Nat) (M : zM), cells + k ≤ K → slots + n ≤ N → zS D M H locs → lv_has ls 2 [] → wp_J3_ensureCapacity_L41 D post o k n M → W p l e (rm_J3_ensureCapacity K N) s m args below meth c H locs cells slots (vx_MQ below (zQ D zU post) (zX D (fun _ _ => False)) args s K N (zA D)) (F0 m 41 ls []) := by
  have hC := hG.1
  have hx := hC.x
  have hb := hC.b
  have hown := hC.o
  have hts := hC.ts
  have hlt := hG.2.2.2.2.2
  intro H locs cells slots ls k n M hk hn hZ hl hw
  exact z_vret hG hZ (by omega) (by omega) hw dJ3_ensureCapacity_41
def wp_J3_ensureCapacity_L25 (D : zD) (post : Unit → zM → Prop) (o : Nat) (k : Nat) (n : Nat) (x1 : Int32) (M : zM) : Prop :=
    (zgI M o 26 0 fun g1 => (zp D M o 26 0 (.int (g1 + (1 : Int32))) fun M => ((zis M o [26] ∧ (∃ k3 n4, k3 ≤ k ∧ n4 ≤ n ∧ wp_J3_grow D (fun r2 M => wp_J3_ensureCapacity_L41 D post o (k - k3) (n - n4) M) k3 n4 o x1 M)))))
set_option maxHeartbeats 4000000 in
set_option maxRecDepth 100000 in
theorem wk_J3_ensureCapacity_L25 {p : Program} {l : Launch} {e : Env} {s : State} {m : MethodId} {args : Array Value} {below : List Frame} {meth : Method} {c : Code} {D : zD} {post : Unit → zM → Prop} {K N : Nat} {o : Nat} (hG : zGx p l s m args meth c cJ3_ensureCapacity 2 "java/util/ArrayList" D (none) "ensureCapacity" []) : ∀ {H : Heap} {locs : List Loc} {cells slots : Nat} {ls : Array Slot} (k : Nat) (n : Nat) (x1 : Int32) (M : zM), cells + k ≤ K → slots + n ≤ N → zS D M H locs → lv_has ls 2 [(0, .ref o), (1, .int x1)] → wp_J3_ensureCapacity_L25 D post o k n x1 M → W p l e (rm_J3_ensureCapacity K N) s m args below meth c H locs cells slots (vx_MQ below (zQ D zU post) (zX D (fun _ _ => False)) args s K N (zA D)) (F0 m 25 ls []) := by
  have hC := hG.1
  have hx := hC.x
  have hb := hC.b
  have hown := hC.o
  have hts := hC.ts
  have hlt := hG.2.2.2.2.2
  intro H locs cells slots ls k n x1 M hk hn hZ hl hw
  refine lv_aload_n hx hb dJ3_ensureCapacity_25 rfl (lv_at hl 0 rfl) ?_
  refine lv_dup hx hb dJ3_ensureCapacity_26 rfl ?_
  obtain ⟨fs0, g6, hM0, hx0, hw⟩ := hw
  refine z_get hC hZ hM0 zc26 0 (by decide) q211 (u_same (hts _ q210)) hx0 dJ3_ensureCapacity_27 ?_
  refine lv_iconst (v := 1) hx hb dJ3_ensureCapacity_30 (by decide) ?_
  refine lv_iadd hx hb dJ3_ensureCapacity_31 ?_
  obtain ⟨fs0, hM0, hb0, hk0, hw⟩ := hw
  refine z_put hC hZ hM0 hb0 zc26 0 (by decide) q211 (u_same (hts _ q210)) (by decide) rfl rfl hk0 dJ3_ensureCapacity_32 (fun H locs hZ => ?_)
  generalize zu M _ _ = M at hw hZ
  refine lv_aload_n hx hb dJ3_ensureCapacity_35 rfl (lv_at hl 0 rfl) ?_
  refine lv_iload_n hx hb dJ3_ensureCapacity_36 rfl (lv_at hl 1 rfl) ?_
  obtain ⟨⟨ci0, fs0, hci0, hM0⟩, hw⟩ := hw
  obtain ⟨k8, n9, hk1, hn1, hw⟩ := hw
  obtain rfl : ci0 = 26 := List.mem_singleton.mp hci0
  refine z_callR hZ (vx_runV (As := [.int x1]) (rest := []) hC.fix (w_J3_grow hlt hw) (cwV 1 hts (lw_V q224 q226 qs0 q74 q227) rfl rfl rfl ⟨rfl, dd_J3_grow⟩ ⟨Nat.le_of_ble_eq_true rfl, Nat.le_of_ble_eq_true rfl⟩) (z_preV hC hZ hM0 zc26) rfl rfl hl.1 rfl (lv_room (Nat.zero_le _)) dJ3_ensureCapacity_37 ⟨(show cells + k8 ≤ K by omega), (show slots + n9 ≤ N by omega)⟩) (fun r7 M H locs hw1 hZ => ?_) (fun q M H locs ci fs E T9 N9 hw hZ hc1 hM1 hb1 => False.elim hw)
  replace hw := hw1
  clear hw1
  have hk : cells + k8 + (k - k8) ≤ K := by omega
  have hn : slots + n9 + (n - n9) ≤ N := by omega
  generalize cells + k8 = cells at hk ⊢
  generalize slots + n9 = slots at hn ⊢
  clear hk1 hn1
  refine lv_pop hx hb dJ3_ensureCapacity_40 (zcat _) ?_
  exact wk_J3_ensureCapacity_L41 hG _ _ _ hk hn hZ (lv_sub hl [] rfl) hw
def wp_J3_ensureCapacity (D : zD) (post : Unit → zM → Prop) (k : Nat) (n : Nat) (o : Nat) (a0 : Int32) (M : zM) : Prop :=
    (zgR M o 26 1 fun g11 => ((zd g11 fun b12 => zlen M b12 fun n13 => ((a0 ≤ n13 → wp_J3_ensureCapacity_L41 D post o k n M) ∧ (¬ a0 ≤ n13 → (zgR M o 26 1 fun g14 => ((¬ g14 = (some (D.2.2.2 1)) → wp_J3_ensureCapacity_L25 D post o k n a0 M) ∧ (g14 = (some (D.2.2.2 1)) → ((a0 ≤ (10 : Int32) → wp_J3_ensureCapacity_L41 D post o k n M) ∧ (¬ a0 ≤ (10 : Int32) → wp_J3_ensureCapacity_L25 D post o k n a0 M))))))))))
set_option maxHeartbeats 4000000 in
set_option maxRecDepth 100000 in
theorem w_J3_ensureCapacity {l : Launch} {D : zD} {post : Unit → zM → Prop} (hlt : l.stackTraces = false) {k : Nat} {n : Nat} {o : Nat} {a0 : Int32} {M : zM} (hw : wp_J3_ensureCapacity D post k n o a0 M) : zMet l D yJ3_ensureCapacity (ws_ yJ3_ensureCapacity cJ3_ensureCapacity 2 (none)) (rm_J3_ensureCapacity k n) k n [.ref o, .int a0] M zU post (fun _ _ => False) := by
  unfold wp_J3_ensureCapacity at hw
  have hlv : lv_args 0 [.ref o, .int a0] = [(0, .ref o), (1, .int a0)] := (zargs1 rfl (zargs1 rfl rfl))
  refine z_ofW hlt (by decide) (Nat.le_trans (zsl1 rfl (zsl1 rfl (Nat.le_refl 0 : (lg_sl []).length ≤ 0))) (Nat.le_of_ble_eq_true rfl)) hlv ?_
  intro p e s m args below meth c ls hG hZ hl
  have hC := hG.1
  have hx := hC.x
  have hb := hC.b
  have hown := hC.o
  have hts := hC.ts
  have hlt := hG.2.2.2.2.2
  obtain ⟨cells, hce⟩ : ∃ z : Nat, z = 0 := ⟨0, rfl⟩
  obtain ⟨slots, hsl⟩ : ∃ z : Nat, z = 0 := ⟨0, rfl⟩
  refine W.cs (cells' := cells) (slots' := slots) hce.symm hsl.symm ?_
  have hk : cells + k ≤ k := by omega
  have hn : slots + n ≤ n := by omega
  clear hce hsl
  refine lv_iload_n hx hb dJ3_ensureCapacity_0 rfl (lv_at hl 1 rfl) ?_
  refine lv_aload_n hx hb dJ3_ensureCapacity_1 rfl (lv_at hl 0 rfl) ?_
  obtain ⟨fs0, g18, hM0, hx0, hw⟩ := hw
  refine z_get hC hZ hM0 zc26 1 (by decide) q204 (fun _ h9 => h9) hx0 dJ3_ensureCapacity_2 ?_
  obtain ⟨b19, hr0, hw⟩ := hw
  subst hr0
  obtain ⟨y0, hM0, hy0, hw⟩ := hw
  refine z_alen hC hZ hM0 hy0 dJ3_ensureCapacity_5 ?_
  generalize Int32.ofNat y0.2.1 = n20 at hw ⊢
  refine lv_icmp_le (tgt := 41) hx hb dJ3_ensureCapacity_6 (by decide) (fun c24 => ?_) (fun c24 => ?_)
  · replace hw := hw.1 c24
    exact wk_J3_ensureCapacity_L41 hG _ _ _ hk hn hZ (lv_sub hl [] rfl) hw
  · replace hw := hw.2 c24
    refine lv_aload_n hx hb dJ3_ensureCapacity_9 rfl (lv_at hl 0 rfl) ?_
    obtain ⟨fs0, g21, hM0, hx0, hw⟩ := hw
    refine z_get hC hZ hM0 zc26 1 (by decide) q204 (fun _ h9 => h9) hx0 dJ3_ensureCapacity_10 ?_
    refine z_gets hC hZ hC.K.2.2.2.2.2.1.2.1 q202 (fun _ h9 => h9) dJ3_ensureCapacity_13 ?_
    refine lv_acmp_ne (rx := g21) (ry := (some (D.2.2.2 1))) (tgt := 25) hx hb dJ3_ensureCapacity_16 (by decide) (fun c23 => ?_) (fun c23 => ?_)
    · replace hw := hw.1 c23
      exact wk_J3_ensureCapacity_L25 hG _ _ _ _ hk hn hZ (lv_sub hl [0, 1] rfl) hw
    · replace hw := hw.2 c23
      refine lv_iload_n hx hb dJ3_ensureCapacity_19 rfl (lv_at hl 1 rfl) ?_
      refine lv_bipush (v := 10) hx hb dJ3_ensureCapacity_20 (by decide) ?_
      refine lv_icmp_le (tgt := 41) hx hb dJ3_ensureCapacity_22 (by decide) (fun c22 => ?_) (fun c22 => ?_)
      · replace hw := hw.1 c22
        exact wk_J3_ensureCapacity_L41 hG _ _ _ hk hn hZ (lv_sub hl [] rfl) hw
      · replace hw := hw.2 c22
        exact wk_J3_ensureCapacity_L25 hG _ _ _ _ hk hn hZ (lv_sub hl [0, 1] rfl) hw
abbrev rm_J6_checkIndex : Room := { frames := 2, cells := 0, slots := 0, locals := 86 }
def wp_J6_checkIndex (D : zD) (post : Int32 → zM → Prop) (a0 : Int32) (a1 : Int32) (M : zM) : Prop :=
    (wp_J7_checkIndex D (fun r1 M => post r1 M) a0 a1 none M)
set_option maxHeartbeats 4000000 in
set_option maxRecDepth 100000 in
theorem w_J6_checkIndex {l : Launch} {D : zD} {post : Int32 → zM → Prop} (hlt : l.stackTraces = false) {a0 : Int32} {a1 : Int32} {M : zM} (hw : wp_J6_checkIndex D post a0 a1 M) : zMet l D yJ6_checkIndex (ws_ yJ6_checkIndex cJ6_checkIndex 2 (some .int)) rm_J6_checkIndex 0 0 [.int a0, .int a1] M zI post (fun _ _ => False) := by
  unfold wp_J6_checkIndex at hw
  have hlv : lv_args 0 [.int a0, .int a1] = [(0, .int a0), (1, .int a1)] := (zargs1 rfl (zargs1 rfl rfl))
  refine z_ofW hlt (by decide) (Nat.le_trans (zsl1 rfl (zsl1 rfl (Nat.le_refl 0 : (lg_sl []).length ≤ 0))) (Nat.le_of_ble_eq_true rfl)) hlv ?_
  intro p e s m args below meth c ls hG hZ hl
  have hC := hG.1
  have hx := hC.x
  have hb := hC.b
  have hown := hC.o
  have hts := hC.ts
  have hlt := hG.2.2.2.2.2
  obtain ⟨cells, hce⟩ : ∃ z : Nat, z = 0 := ⟨0, rfl⟩
  obtain ⟨slots, hsl⟩ : ∃ z : Nat, z = 0 := ⟨0, rfl⟩
  refine W.cs (cells' := cells) (slots' := slots) hce.symm hsl.symm ?_
  have hk : cells ≤ 0 := Nat.le_of_eq hce
  have hn : slots ≤ 0 := Nat.le_of_eq hsl
  clear hce hsl
  refine lv_iload_n hx hb dJ6_checkIndex_0 rfl (lv_at hl 0 rfl) ?_
  refine lv_iload_n hx hb dJ6_checkIndex_1 rfl (lv_at hl 1 rfl) ?_
  refine z_null hC dJ6_checkIndex_2 ?_
  refine z_callI hZ (vx_runS (As := [.int a0, .int a1, va_rf none]) (rest := []) hC.fix (w_J7_checkIndex hlt hw) (va_cwS 3 hts (lw_S q474 q475 q85 q476) rfl rfl rfl dd_J7_checkIndex ⟨Nat.le_of_ble_eq_true rfl, Nat.le_of_ble_eq_true rfl⟩) (z_preS hC hZ) rfl rfl hl.1 rfl (lv_room (Nat.zero_le _)) dJ6_checkIndex_3 ⟨hk, hn⟩) (fun r4 M H locs hw1 hZ => ?_) (fun q M H locs ci fs E T9 N9 hw hZ hc1 hM1 hb1 => False.elim hw)
  replace hw := hw1
  clear hw1
  refine W.cs (cells' := cells) (slots' := slots) rfl rfl ?_
  exact z_iret hG hZ hk hn hw dJ6_checkIndex_6
abbrev rm_J3_get : Room := { frames := 3, cells := 0, slots := 0, locals := 107 }
def wp_J3_get (D : zD) (post : Option Nat → zM → Prop) (o : Nat) (a0 : Int32) (M : zM) : Prop :=
    (zgI M o 26 2 fun g1 => (wp_J6_checkIndex D (fun r2 M => ((zis M o [26] ∧ wp_J3_elementData D (fun r5 M => post r5 M) o a0 M))) a0 g1 M))
set_option maxHeartbeats 4000000 in
set_option maxRecDepth 100000 in
theorem w_J3_get {l : Launch} {D : zD} {post : Option Nat → zM → Prop} (hlt : l.stackTraces = false) {o : Nat} {a0 : Int32} {M : zM} (hw : wp_J3_get D post o a0 M) : zMet l D yJ3_get (ws_ yJ3_get cJ3_get 2 (some (.object "java/lang/Object"))) rm_J3_get 0 0 [.ref o, .int a0] M zR post (fun _ _ => False) := by
  unfold wp_J3_get at hw
  have hlv : lv_args 0 [.ref o, .int a0] = [(0, .ref o), (1, .int a0)] := (zargs1 rfl (zargs1 rfl rfl))
  refine z_ofW hlt (by decide) (Nat.le_trans (zsl1 rfl (zsl1 rfl (Nat.le_refl 0 : (lg_sl []).length ≤ 0))) (Nat.le_of_ble_eq_true rfl)) hlv ?_
  intro p e s m args below meth c ls hG hZ hl
  have hC := hG.1
  have hx := hC.x
  have hb := hC.b
  have hown := hC.o
  have hts := hC.ts
  have hlt := hG.2.2.2.2.2
  obtain ⟨cells, hce⟩ : ∃ z : Nat, z = 0 := ⟨0, rfl⟩
  obtain ⟨slots, hsl⟩ : ∃ z : Nat, z = 0 := ⟨0, rfl⟩
  refine W.cs (cells' := cells) (slots' := slots) hce.symm hsl.symm ?_
  have hk : cells ≤ 0 := Nat.le_of_eq hce
  have hn : slots ≤ 0 := Nat.le_of_eq hsl
  clear hce hsl
  refine lv_iload_n hx hb dJ3_get_0 rfl (lv_at hl 1 rfl) ?_
  refine lv_aload_n hx hb dJ3_get_1 rfl (lv_at hl 0 rfl) ?_
  obtain ⟨fs0, g8, hM0, hx0, hw⟩ := hw
  refine z_get hC hZ hM0 zc26 2 (by decide) q207 (fun _ h9 => h9) hx0 dJ3_get_2 ?_
  refine z_callI hZ (vx_runS (As := [.int a0, .int g8]) (rest := []) hC.fix (w_J6_checkIndex hlt hw) (va_cwS 2 hts (lw_S q471 q472 q84 q473) rfl rfl rfl dd_J6_checkIndex ⟨Nat.le_of_ble_eq_true rfl, Nat.le_of_ble_eq_true rfl⟩) (z_preS hC hZ) rfl rfl hl.1 rfl (lv_room (Nat.zero_le _)) dJ3_get_5 ⟨hk, hn⟩) (fun r9 M H locs hw1 hZ => ?_) (fun q M H locs ci fs E T9 N9 hw hZ hc1 hM1 hb1 => False.elim hw)
  replace hw := hw1
  clear hw1
  refine W.cs (cells' := cells) (slots' := slots) rfl rfl ?_
  refine lv_pop hx hb dJ3_get_8 rfl ?_
  refine lv_aload_n hx hb dJ3_get_9 rfl (lv_at hl 0 rfl) ?_
  refine lv_iload_n hx hb dJ3_get_10 rfl (lv_at hl 1 rfl) ?_
  obtain ⟨⟨ci0, fs0, hci0, hM0⟩, hw⟩ := hw
  obtain rfl : ci0 = 26 := List.mem_singleton.mp hci0
  refine z_callR hZ (vx_runV (As := [.int a0]) (rest := []) hC.fix (w_J3_elementData hlt hw) (cwV 1 hts (lw_V q477 q478 q479 q74 q480) rfl rfl rfl ⟨rfl, dd_J3_elementData⟩ ⟨Nat.le_of_ble_eq_true rfl, Nat.le_of_ble_eq_true rfl⟩) (z_preV hC hZ hM0 zc26) rfl rfl hl.1 rfl (lv_room (Nat.zero_le _)) dJ3_get_11 ⟨hk, hn⟩) (fun r12 M H locs hw1 hZ => ?_) (fun q M H locs ci fs E T9 N9 hw hZ hc1 hM1 hb1 => False.elim hw)
  replace hw := hw1
  clear hw1
  refine W.cs (cells' := cells) (slots' := slots) rfl rfl ?_
  exact z_aret (r := r12) hG (Or.inl ⟨_, rfl⟩) hZ hk hn hw dJ3_get_14
abbrev rm_J3_init : Room := { frames := 3, cells := 0, slots := 0, locals := 104 }
def wp_J3_init (D : zD) (post : Unit → zM → Prop) (o : Nat) (M : zM) : Prop :=
    (wp_J2_init D (fun _ M => (zp D M o 26 1 (.ref (D.2.2.2 1)) fun M => post () M)) o M)
set_option maxHeartbeats 4000000 in
set_option maxRecDepth 100000 in
theorem w_J3_init {l : Launch} {D : zD} {post : Unit → zM → Prop} (hlt : l.stackTraces = false) {o : Nat} {M : zM} (hw : wp_J3_init D post o M) : zMet l D yJ3_init (ws_ yJ3_init cJ3_init 1 (none)) rm_J3_init 0 0 [.ref o] M zU post (fun _ _ => False) := by
  unfold wp_J3_init at hw
  have hlv : lv_args 0 [.ref o] = [(0, .ref o)] := (zargs1 rfl rfl)
  refine z_ofW hlt (by decide) (Nat.le_trans (zsl1 rfl (Nat.le_refl 0 : (lg_sl []).length ≤ 0)) (Nat.le_of_ble_eq_true rfl)) hlv ?_
  intro p e s m args below meth c ls hG hZ hl
  have hC := hG.1
  have hx := hC.x
  have hb := hC.b
  have hown := hC.o
  have hts := hC.ts
  have hlt := hG.2.2.2.2.2
  obtain ⟨cells, hce⟩ : ∃ z : Nat, z = 0 := ⟨0, rfl⟩
  obtain ⟨slots, hsl⟩ : ∃ z : Nat, z = 0 := ⟨0, rfl⟩
  refine W.cs (cells' := cells) (slots' := slots) hce.symm hsl.symm ?_
  have hk : cells ≤ 0 := Nat.le_of_eq hce
  have hn : slots ≤ 0 := Nat.le_of_eq hsl
  clear hce hsl
  refine lv_aload_n hx hb dJ3_init_0 rfl (lv_at hl 0 rfl) ?_
  refine z_callU hZ (vx_runI (As := []) (rest := []) hC.fix (w_J2_init hlt hw) (cwI 0 hts (lw_meth q197) rfl rfl rfl (hts _ q73) (hts _ q195) (hts _ q196) rfl dd_J2_init ⟨Nat.le_of_ble_eq_true rfl, Nat.le_of_ble_eq_true rfl⟩) (z_preS hC hZ) rfl rfl hl.1 rfl (lv_room (Nat.zero_le _)) dJ3_init_1 ⟨hk, hn⟩) (fun r5 M H locs hw1 hZ => ?_) (fun q M H locs ci fs E T9 N9 hw hZ hc1 hM1 hb1 => False.elim hw)
  replace hw := hw1
  clear hw1
  refine W.cs (cells' := cells) (slots' := slots) rfl rfl ?_
  refine lv_aload_n hx hb dJ3_init_4 rfl (lv_at hl 0 rfl) ?_
  refine z_gets hC hZ hC.K.2.2.2.2.2.1.2.1 q202 (fun _ h9 => h9) dJ3_init_5 ?_
  obtain ⟨fs0, hM0, hb0, hk0, hw⟩ := hw
  refine z_put hC hZ hM0 hb0 zc26 1 (by decide) q204 (fun _ h9 => h9) (by decide) rfl rfl hk0 dJ3_init_8 (fun H locs hZ => ?_)
  generalize zu M _ _ = M at hw hZ
  exact z_vret hG hZ hk hn hw dJ3_init_11
abbrev rm_J3_iterator (K N : Nat) : Room := { frames := 2, cells := K, slots := N, locals := 85 }
def wp_J3_iterator (D : zD) (post : Option Nat → zM → Prop) (k : Nat) (n : Nat) (o : Nat) (M : zM) : Prop :=
    (znew D M 27 4 [.int 0, .int 0, .int 0, .null] k n fun b1 M => (wp_J15_init D (fun _ M => post (some b1) M) b1 (some o) M))
set_option maxHeartbeats 4000000 in
set_option maxRecDepth 100000 in
theorem w_J3_iterator {l : Launch} {D : zD} {post : Option Nat → zM → Prop} (hlt : l.stackTraces = false) {k : Nat} {n : Nat} {o : Nat} {M : zM} (hw : wp_J3_iterator D post k n o M) : zMet l D yJ3_iterator (ws_ yJ3_iterator cJ3_iterator 1 (some (.object "java/util/Iterator"))) (rm_J3_iterator k n) k n [.ref o] M zR post (fun _ _ => False) := by
  unfold wp_J3_iterator at hw
  have hlv : lv_args 0 [.ref o] = [(0, .ref o)] := (zargs1 rfl rfl)
  refine z_ofW hlt (by decide) (Nat.le_trans (zsl1 rfl (Nat.le_refl 0 : (lg_sl []).length ≤ 0)) (Nat.le_of_ble_eq_true rfl)) hlv ?_
  intro p e s m args below meth c ls hG hZ hl
  have hC := hG.1
  have hx := hC.x
  have hb := hC.b
  have hown := hC.o
  have hts := hC.ts
  have hlt := hG.2.2.2.2.2
  obtain ⟨cells, hce⟩ : ∃ z : Nat, z = 0 := ⟨0, rfl⟩
  obtain ⟨slots, hsl⟩ : ∃ z : Nat, z = 0 := ⟨0, rfl⟩
  refine W.cs (cells' := cells) (slots' := slots) hce.symm hsl.symm ?_
  have hk : cells + k ≤ k := by omega
  have hn : slots + n ≤ n := by omega
  clear hce hsl
  obtain ⟨hk1, hn1, hw⟩ := hw
  refine z_new (fs := [.int 0, .int 0, .int 0, .null]) hC hZ zc27 q1017 q1018 q108 (zdefs (N := 4) (ty := tyJ15) (fs := [.int 0, .int 0, .int 0, .null]) (by decide)) (show cells + 1 ≤ k by omega) (show slots + 4 ≤ n by omega) dJ3_iterator_0 (fun b5 H hq0 hq1 hZ => ?_)
  replace hw := hw b5 hq0 hq1
  generalize zu M _ _ = M at hw hZ
  have hk : cells + 1 + (k - 1) ≤ k := by omega
  have hn : slots + 4 + (n - 4) ≤ n := by omega
  generalize cells + 1 = cells at hk ⊢
  generalize slots + 4 = slots at hn ⊢
  clear hk1 hn1
  refine lv_dup hx hb dJ3_iterator_3 rfl ?_
  refine lv_aload_n hx hb dJ3_iterator_4 rfl (lv_at hl 0 rfl) ?_
  refine z_callU hZ (vx_runI (As := [.ref o]) (rest := [.ref b5]) hC.fix (w_J15_init hlt hw) (cwI 1 hts (lw_meth q1021) rfl rfl rfl (hts _ q108) (hts _ q1019) (hts _ q1020) rfl dd_J15_init ⟨Nat.le_of_ble_eq_true rfl, Nat.le_of_ble_eq_true rfl⟩) (z_preS hC hZ) rfl rfl hl.1 rfl (lv_room (Nat.le_trans (zrm1 rfl zrm0) (Nat.le_of_ble_eq_true rfl))) dJ3_iterator_5 ⟨(show cells + 0 ≤ k by omega), (show slots + 0 ≤ n by omega)⟩) (fun r6 M H locs hw1 hZ => ?_) (fun q M H locs ci fs E T9 N9 hw hZ hc1 hM1 hb1 => False.elim hw)
  replace hw := hw1
  clear hw1
  refine W.cs (cells' := cells) (slots' := slots) rfl rfl ?_
  exact z_aret (r := (some b5)) hG (Or.inl ⟨_, rfl⟩) hZ (by omega) (by omega) hw dJ3_iterator_8
abbrev rm_J3_size : Room := { frames := 1, cells := 0, slots := 0, locals := 64 }
def wp_J3_size (D : zD) (post : Int32 → zM → Prop) (o : Nat) (M : zM) : Prop :=
    (zgI M o 26 2 fun g1 => post g1 M)
set_option maxHeartbeats 4000000 in
set_option maxRecDepth 100000 in
theorem w_J3_size {l : Launch} {D : zD} {post : Int32 → zM → Prop} (hlt : l.stackTraces = false) {o : Nat} {M : zM} (hw : wp_J3_size D post o M) : zMet l D yJ3_size (ws_ yJ3_size cJ3_size 1 (some .int)) rm_J3_size 0 0 [.ref o] M zI post (fun _ _ => False) := by
  unfold wp_J3_size at hw
  have hlv : lv_args 0 [.ref o] = [(0, .ref o)] := (zargs1 rfl rfl)
  refine z_ofW hlt (by decide) (Nat.le_trans (zsl1 rfl (Nat.le_refl 0 : (lg_sl []).length ≤ 0)) (Nat.le_of_ble_eq_true rfl)) hlv ?_
  intro p e s m args below meth c ls hG hZ hl
  have hC := hG.1
  have hx := hC.x
  have hb := hC.b
  have hown := hC.o
  have hts := hC.ts
  have hlt := hG.2.2.2.2.2
  obtain ⟨cells, hce⟩ : ∃ z : Nat, z = 0 := ⟨0, rfl⟩
  obtain ⟨slots, hsl⟩ : ∃ z : Nat, z = 0 := ⟨0, rfl⟩
  refine W.cs (cells' := cells) (slots' := slots) hce.symm hsl.symm ?_
  have hk : cells ≤ 0 := Nat.le_of_eq hce
  have hn : slots ≤ 0 := Nat.le_of_eq hsl
  clear hce hsl
  refine lv_aload_n hx hb dJ3_size_0 rfl (lv_at hl 0 rfl) ?_
  obtain ⟨fs0, g2, hM0, hx0, hw⟩ := hw
  refine z_get hC hZ hM0 zc26 2 (by decide) q207 (fun _ h9 => h9) hx0 dJ3_size_1 ?_
  exact z_iret hG hZ hk hn hw dJ3_size_4
abbrev rm_X0_in : Room := { frames := 1, cells := 0, slots := 0, locals := 64 }
def wp_X0_in_L18 (D : zD) (post : Int32 → zM → Prop) (y0 : Int32) (M : zM) : Prop :=
    (narrow .boolean (.int y0) = .int y0 ∧ post y0 M)
set_option maxHeartbeats 4000000 in
set_option maxRecDepth 100000 in
theorem wk_X0_in_L18 {p : Program} {l : Launch} {e : Env} {s : State} {m : MethodId} {args : Array Value} {below : List Frame} {meth : Method} {c : Code} {D : zD} {post : Int32 → zM → Prop} (hG : zGx p l s m args meth c cX0_in 6 "PluralBranches" D (some .boolean) "in" []) : ∀ {H : Heap} {locs : List Loc} {cells slots : Nat} {ls : Array Slot} (y0 : Int32) (M : zM), cells ≤ 0 → slots ≤ 0 → zS D M H locs → lv_has ls 6 [] → wp_X0_in_L18 D post y0 M → W p l e rm_X0_in s m args below meth c H locs cells slots (vx_MQ below (zQ D zI post) (zX D (fun _ _ => False)) args s 0 0 (zA D)) (F0 m 18 ls [.int y0]) := by
  have hC := hG.1
  have hx := hC.x
  have hb := hC.b
  have hown := hC.o
  have hts := hC.ts
  have hlt := hG.2.2.2.2.2
  intro H locs cells slots ls y0 M hk hn hZ hl hw
  exact z_zret hG hZ hk hn hw.1 hw.2 dX0_in_18
def wp_X0_in_L17 (D : zD) (post : Int32 → zM → Prop) (M : zM) : Prop :=
    wp_X0_in_L18 D post (0 : Int32) M
set_option maxHeartbeats 4000000 in
set_option maxRecDepth 100000 in
theorem wk_X0_in_L17 {p : Program} {l : Launch} {e : Env} {s : State} {m : MethodId} {args : Array Value} {below : List Frame} {meth : Method} {c : Code} {D : zD} {post : Int32 → zM → Prop} (hG : zGx p l s m args meth c cX0_in 6 "PluralBranches" D (some .boolean) "in" []) : ∀ {H : Heap} {locs : List Loc} {cells slots : Nat} {ls : Array Slot} (M : zM), cells ≤ 0 → slots ≤ 0 → zS D M H locs → lv_has ls 6 [] → wp_X0_in_L17 D post M → W p l e rm_X0_in s m args below meth c H locs cells slots (vx_MQ below (zQ D zI post) (zX D (fun _ _ => False)) args s 0 0 (zA D)) (F0 m 17 ls []) := by
  have hC := hG.1
  have hx := hC.x
  have hb := hC.b
  have hown := hC.o
  have hts := hC.ts
  have hlt := hG.2.2.2.2.2
  intro H locs cells slots ls M hk hn hZ hl hw
  refine lv_iconst (v := 0) hx hb dX0_in_17 (by decide) ?_
  exact wk_X0_in_L18 hG _ _ hk hn hZ (lv_sub hl [] rfl) hw
def wp_X0_in (D : zD) (post : Int32 → zM → Prop) (a0 : Int64) (a1 : Int64) (a2 : Int64) (M : zM) : Prop :=
    (((lg_cmp a0 a1) < 0 → wp_X0_in_L17 D post M) ∧ (¬ (lg_cmp a0 a1) < 0 → ((0 < (lg_cmp a0 a2) → wp_X0_in_L17 D post M) ∧ (¬ 0 < (lg_cmp a0 a2) → wp_X0_in_L18 D post (1 : Int32) M))))
set_option maxHeartbeats 4000000 in
set_option maxRecDepth 100000 in
theorem w_X0_in {l : Launch} {D : zD} {post : Int32 → zM → Prop} (hlt : l.stackTraces = false) {a0 : Int64} {a1 : Int64} {a2 : Int64} {M : zM} (hw : wp_X0_in D post a0 a1 a2 M) : zMet l D yX0_in (ws_ yX0_in cX0_in 6 (some .boolean)) rm_X0_in 0 0 [.long a0, .long a1, .long a2] M zI post (fun _ _ => False) := by
  unfold wp_X0_in at hw
  have hlv : lv_args 0 [.long a0, .long a1, .long a2] = [(0, .long a0), (2, .long a1), (4, .long a2)] := (zargs2 rfl (zargs2 rfl (zargs2 rfl rfl)))
  refine z_ofW hlt (by decide) (Nat.le_trans (zsl2 rfl (zsl2 rfl (zsl2 rfl (Nat.le_refl 0 : (lg_sl []).length ≤ 0)))) (Nat.le_of_ble_eq_true rfl)) hlv ?_
  intro p e s m args below meth c ls hG hZ hl
  have hC := hG.1
  have hx := hC.x
  have hb := hC.b
  have hown := hC.o
  have hts := hC.ts
  have hlt := hG.2.2.2.2.2
  obtain ⟨cells, hce⟩ : ∃ z : Nat, z = 0 := ⟨0, rfl⟩
  obtain ⟨slots, hsl⟩ : ∃ z : Nat, z = 0 := ⟨0, rfl⟩
  refine W.cs (cells' := cells) (slots' := slots) hce.symm hsl.symm ?_
  have hk : cells ≤ 0 := Nat.le_of_eq hce
  have hn : slots ≤ 0 := Nat.le_of_eq hsl
  clear hce hsl
  refine lv_lload_n hx hb dX0_in_0 rfl (lv_at hl 0 rfl) ?_
  refine lv_lload_n hx hb dX0_in_1 rfl (lv_at hl 1 rfl) ?_
  refine W.lcmp hx hb dX0_in_2 ?_
  refine lv_if_lt (tgt := 17) hx hb dX0_in_3 (by decide) (fun c4 => ?_) (fun c4 => ?_)
  · replace hw := hw.1 c4
    exact wk_X0_in_L17 hG _ hk hn hZ (lv_sub hl [] rfl) hw
  · replace hw := hw.2 c4
    refine lv_lload_n hx hb dX0_in_6 rfl (lv_at hl 0 rfl) ?_
    refine lv_lload hx hb dX0_in_7 (lv_at hl 2 rfl) ?_
    refine W.lcmp hx hb dX0_in_9 ?_
    refine lv_if_gt (tgt := 17) hx hb dX0_in_10 (by decide) (fun c3 => ?_) (fun c3 => ?_)
    · replace hw := hw.1 c3
      exact wk_X0_in_L17 hG _ hk hn hZ (lv_sub hl [] rfl) hw
    · replace hw := hw.2 c3
      refine lv_iconst (v := 1) hx hb dX0_in_13 (by decide) ?_
      refine lv_goto (tgt := 18) hx hb dX0_in_14 (by decide) ?_
      exact wk_X0_in_L18 hG _ _ hk hn hZ (lv_sub hl [] rfl) hw
abbrev rm_X0_isArgument : Room := { frames := 2, cells := 0, slots := 0, locals := 89 }
def wp_X0_isArgument (D : zD) (post : Int32 → zM → Prop) (a0 : Int32) (M : zM) : Prop :=
    (wp_X0_in D (fun r1 M => (narrow .boolean (.int r1) = .int r1 ∧ post r1 M)) (a0.toInt64) (0 : Int64) (4 : Int64) M)
set_option maxHeartbeats 4000000 in
set_option maxRecDepth 100000 in
theorem w_X0_isArgument {l : Launch} {D : zD} {post : Int32 → zM → Prop} (hlt : l.stackTraces = false) {a0 : Int32} {M : zM} (hw : wp_X0_isArgument D post a0 M) : zMet l D yX0_isArgument (ws_ yX0_isArgument cX0_isArgument 1 (some .boolean)) rm_X0_isArgument 0 0 [.int a0] M zI post (fun _ _ => False) := by
  unfold wp_X0_isArgument at hw
  have hlv : lv_args 0 [.int a0] = [(0, .int a0)] := (zargs1 rfl rfl)
  refine z_ofW hlt (by decide) (Nat.le_trans (zsl1 rfl (Nat.le_refl 0 : (lg_sl []).length ≤ 0)) (Nat.le_of_ble_eq_true rfl)) hlv ?_
  intro p e s m args below meth c ls hG hZ hl
  have hC := hG.1
  have hx := hC.x
  have hb := hC.b
  have hown := hC.o
  have hts := hC.ts
  have hlt := hG.2.2.2.2.2
  obtain ⟨cells, hce⟩ : ∃ z : Nat, z = 0 := ⟨0, rfl⟩
  obtain ⟨slots, hsl⟩ : ∃ z : Nat, z = 0 := ⟨0, rfl⟩
  refine W.cs (cells' := cells) (slots' := slots) hce.symm hsl.symm ?_
  have hk : cells ≤ 0 := Nat.le_of_eq hce
  have hn : slots ≤ 0 := Nat.le_of_eq hsl
  clear hce hsl
  refine lv_iload_n hx hb dX0_isArgument_0 rfl (lv_at hl 0 rfl) ?_
  refine lv_i2l hx hb dX0_isArgument_1 rfl ?_
  refine lv_lconst (v := 0) hx hb dX0_isArgument_2 (by decide) ?_
  refine lv_ldc2 hx hb hown (hts _ q437) dX0_isArgument_3 ?_
  refine z_callI hZ (vx_runS (As := [.long (a0.toInt64), .long (0 : Int64), .long (4 : Int64)]) (rest := []) hC.fix (w_X0_in hlt hw) (va_cwS 3 hts (lw_S q434 q435 q67 q436) rfl rfl rfl dd_X0_in ⟨Nat.le_of_ble_eq_true rfl, Nat.le_of_ble_eq_true rfl⟩) (z_preS hC hZ) rfl rfl hl.1 rfl (lv_room (Nat.zero_le _)) dX0_isArgument_6 ⟨hk, hn⟩) (fun r4 M H locs hw1 hZ => ?_) (fun q M H locs ci fs E T9 N9 hw hZ hc1 hM1 hb1 => False.elim hw)
  replace hw := hw1
  clear hw1
  refine W.cs (cells' := cells) (slots' := slots) rfl rfl ?_
  exact z_zret hG hZ hk hn hw.1 hw.2 dX0_isArgument_9
abbrev rm_X25_type : Room := { frames := 1, cells := 0, slots := 0, locals := 64 }
def wp_X25_type (D : zD) (post : Int32 → zM → Prop) (o : Nat) (M : zM) : Prop :=
    post (1 : Int32) M
set_option maxHeartbeats 4000000 in
set_option maxRecDepth 100000 in
theorem w_X25_type {l : Launch} {D : zD} {post : Int32 → zM → Prop} (hlt : l.stackTraces = false) {o : Nat} {M : zM} (hw : wp_X25_type D post o M) : zMet l D yX25_type (ws_ yX25_type cX25_type 1 (some .int)) rm_X25_type 0 0 [.ref o] M zI post (fun _ _ => False) := by
  unfold wp_X25_type at hw
  have hlv : lv_args 0 [.ref o] = [(0, .ref o)] := (zargs1 rfl rfl)
  refine z_ofW hlt (by decide) (Nat.le_trans (zsl1 rfl (Nat.le_refl 0 : (lg_sl []).length ≤ 0)) (Nat.le_of_ble_eq_true rfl)) hlv ?_
  intro p e s m args below meth c ls hG hZ hl
  have hC := hG.1
  have hx := hC.x
  have hb := hC.b
  have hown := hC.o
  have hts := hC.ts
  have hlt := hG.2.2.2.2.2
  obtain ⟨cells, hce⟩ : ∃ z : Nat, z = 0 := ⟨0, rfl⟩
  obtain ⟨slots, hsl⟩ : ∃ z : Nat, z = 0 := ⟨0, rfl⟩
  refine W.cs (cells' := cells) (slots' := slots) hce.symm hsl.symm ?_
  have hk : cells ≤ 0 := Nat.le_of_eq hce
  have hn : slots ≤ 0 := Nat.le_of_eq hsl
  clear hce hsl
  refine lv_iconst (v := 1) hx hb dX25_type_0 (by decide) ?_
  exact z_iret hG hZ hk hn hw dX25_type_1
abbrev rm_X26_type : Room := { frames := 1, cells := 0, slots := 0, locals := 64 }
def wp_X26_type (D : zD) (post : Int32 → zM → Prop) (o : Nat) (M : zM) : Prop :=
    post (2 : Int32) M
set_option maxHeartbeats 4000000 in
set_option maxRecDepth 100000 in
theorem w_X26_type {l : Launch} {D : zD} {post : Int32 → zM → Prop} (hlt : l.stackTraces = false) {o : Nat} {M : zM} (hw : wp_X26_type D post o M) : zMet l D yX26_type (ws_ yX26_type cX26_type 1 (some .int)) rm_X26_type 0 0 [.ref o] M zI post (fun _ _ => False) := by
  unfold wp_X26_type at hw
  have hlv : lv_args 0 [.ref o] = [(0, .ref o)] := (zargs1 rfl rfl)
  refine z_ofW hlt (by decide) (Nat.le_trans (zsl1 rfl (Nat.le_refl 0 : (lg_sl []).length ≤ 0)) (Nat.le_of_ble_eq_true rfl)) hlv ?_
  intro p e s m args below meth c ls hG hZ hl
  have hC := hG.1
  have hx := hC.x
  have hb := hC.b
  have hown := hC.o
  have hts := hC.ts
  have hlt := hG.2.2.2.2.2
  obtain ⟨cells, hce⟩ : ∃ z : Nat, z = 0 := ⟨0, rfl⟩
  obtain ⟨slots, hsl⟩ : ∃ z : Nat, z = 0 := ⟨0, rfl⟩
  refine W.cs (cells' := cells) (slots' := slots) hce.symm hsl.symm ?_
  have hk : cells ≤ 0 := Nat.le_of_eq hce
  have hn : slots ≤ 0 := Nat.le_of_eq hsl
  clear hce hsl
  refine lv_iconst (v := 2) hx hb dX26_type_0 (by decide) ?_
  exact z_iret hG hZ hk hn hw dX26_type_1
abbrev rm_X27_type : Room := { frames := 1, cells := 0, slots := 0, locals := 64 }
def wp_X27_type (D : zD) (post : Int32 → zM → Prop) (o : Nat) (M : zM) : Prop :=
    post (3 : Int32) M
set_option maxHeartbeats 4000000 in
set_option maxRecDepth 100000 in
theorem w_X27_type {l : Launch} {D : zD} {post : Int32 → zM → Prop} (hlt : l.stackTraces = false) {o : Nat} {M : zM} (hw : wp_X27_type D post o M) : zMet l D yX27_type (ws_ yX27_type cX27_type 1 (some .int)) rm_X27_type 0 0 [.ref o] M zI post (fun _ _ => False) := by
  unfold wp_X27_type at hw
  have hlv : lv_args 0 [.ref o] = [(0, .ref o)] := (zargs1 rfl rfl)
  refine z_ofW hlt (by decide) (Nat.le_trans (zsl1 rfl (Nat.le_refl 0 : (lg_sl []).length ≤ 0)) (Nat.le_of_ble_eq_true rfl)) hlv ?_
  intro p e s m args below meth c ls hG hZ hl
  have hC := hG.1
  have hx := hC.x
  have hb := hC.b
  have hown := hC.o
  have hts := hC.ts
  have hlt := hG.2.2.2.2.2
  obtain ⟨cells, hce⟩ : ∃ z : Nat, z = 0 := ⟨0, rfl⟩
  obtain ⟨slots, hsl⟩ : ∃ z : Nat, z = 0 := ⟨0, rfl⟩
  refine W.cs (cells' := cells) (slots' := slots) hce.symm hsl.symm ?_
  have hk : cells ≤ 0 := Nat.le_of_eq hce
  have hn : slots ≤ 0 := Nat.le_of_eq hsl
  clear hce hsl
  refine lv_iconst (v := 3) hx hb dX27_type_0 (by decide) ?_
  exact z_iret hG hZ hk hn hw dX27_type_1
abbrev rm_X0_typeOf : Room := { frames := 2, cells := 0, slots := 0, locals := 84 }
def wp_X0_typeOf_L24 (D : zD) (post : Int32 → zM → Prop) (o : Nat) (y0 : Int32) (M : zM) : Prop :=
    post y0 M
set_option maxHeartbeats 4000000 in
set_option maxRecDepth 100000 in
theorem wk_X0_typeOf_L24 {p : Program} {l : Launch} {e : Env} {s : State} {m : MethodId} {args : Array Value} {below : List Frame} {meth : Method} {c : Code} {D : zD} {post : Int32 → zM → Prop} {o : Nat} (hG : zGx p l s m args meth c cX0_typeOf 2 "PluralBranches" D (some .int) "typeOf" []) : ∀ {H : Heap} {locs : List Loc} {cells slots : Nat} {ls : Array Slot} (y0 : Int32) (M : zM), cells ≤ 0 → slots ≤ 0 → zS D M H locs → lv_has ls 2 [] → wp_X0_typeOf_L24 D post o y0 M → W p l e rm_X0_typeOf s m args below meth c H locs cells slots (vx_MQ below (zQ D zI post) (zX D (fun _ _ => False)) args s 0 0 (zA D)) (F0 m 24 ls [.int y0]) := by
  have hC := hG.1
  have hx := hC.x
  have hb := hC.b
  have hown := hC.o
  have hts := hC.ts
  have hlt := hG.2.2.2.2.2
  intro H locs cells slots ls y0 M hk hn hZ hl hw
  exact z_iret hG hZ hk hn hw dX0_typeOf_24
def wp_X0_typeOf (D : zD) (post : Int32 → zM → Prop) (o : Nat) (a0 : Int32) (M : zM) : Prop :=
    (zgR M o 0 6 fun g1 => ((zd g1 fun b2 => zaR M b2 9 a0 fun v3 => ((∀ b4 : Nat, v3 = some b4 → (zgR M o 0 6 fun g5 => ((zd g5 fun b6 => zaR M b6 9 a0 fun v7 => ((zd v7 fun b8 => ((zis M b8 [22] ∧ wp_X25_type D (fun r9 M => wp_X0_typeOf_L24 D post o r9 M) b8 M) ∨ (zis M b8 [23] ∧ wp_X26_type D (fun r12 M => wp_X0_typeOf_L24 D post o r12 M) b8 M) ∨ (zis M b8 [24] ∧ wp_X27_type D (fun r15 M => wp_X0_typeOf_L24 D post o r15 M) b8 M)))))))) ∧ (v3 = none → wp_X0_typeOf_L24 D post o (0 : Int32) M)))))
set_option maxHeartbeats 4000000 in
set_option maxRecDepth 100000 in
theorem w_X0_typeOf {l : Launch} {D : zD} {post : Int32 → zM → Prop} (hlt : l.stackTraces = false) {o : Nat} {a0 : Int32} {M : zM} (hw : wp_X0_typeOf D post o a0 M) : zMet l D yX0_typeOf (ws_ yX0_typeOf cX0_typeOf 2 (some .int)) rm_X0_typeOf 0 0 [.ref o, .int a0] M zI post (fun _ _ => False) := by
  unfold wp_X0_typeOf at hw
  have hlv : lv_args 0 [.ref o, .int a0] = [(0, .ref o), (1, .int a0)] := (zargs1 rfl (zargs1 rfl rfl))
  refine z_ofW hlt (by decide) (Nat.le_trans (zsl1 rfl (zsl1 rfl (Nat.le_refl 0 : (lg_sl []).length ≤ 0))) (Nat.le_of_ble_eq_true rfl)) hlv ?_
  intro p e s m args below meth c ls hG hZ hl
  have hC := hG.1
  have hx := hC.x
  have hb := hC.b
  have hown := hC.o
  have hts := hC.ts
  have hlt := hG.2.2.2.2.2
  obtain ⟨cells, hce⟩ : ∃ z : Nat, z = 0 := ⟨0, rfl⟩
  obtain ⟨slots, hsl⟩ : ∃ z : Nat, z = 0 := ⟨0, rfl⟩
  refine W.cs (cells' := cells) (slots' := slots) hce.symm hsl.symm ?_
  have hk : cells ≤ 0 := Nat.le_of_eq hce
  have hn : slots ≤ 0 := Nat.le_of_eq hsl
  clear hce hsl
  refine lv_aload_n hx hb dX0_typeOf_0 rfl (lv_at hl 0 rfl) ?_
  obtain ⟨fs0, g18, hM0, hx0, hw⟩ := hw
  refine z_get hC hZ hM0 zc0 6 (by decide) q407 (fun _ h9 => h9) hx0 dX0_typeOf_1 ?_
  refine lv_iload_n hx hb dX0_typeOf_4 rfl (lv_at hl 1 rfl) ?_
  obtain ⟨b19, hr0, hw⟩ := hw
  subst hr0
  obtain ⟨n0, f0, v20, hM0, hi0, hr0, hw⟩ := hw
  refine z_aald hC hZ hM0 (by decide) rfl hi0 hr0 dX0_typeOf_5 ?_
  refine z_ifnonnull (tgt := 13) hC dX0_typeOf_6 (by decide) (fun b21 hr0 => ?_) (fun hr0 => ?_)
  · replace hw := hw.1 b21 hr0
    subst hr0
    refine lv_aload_n hx hb dX0_typeOf_13 rfl (lv_at hl 0 rfl) ?_
    obtain ⟨fs0, g22, hM0, hx0, hw⟩ := hw
    refine z_get hC hZ hM0 zc0 6 (by decide) q407 (fun _ h9 => h9) hx0 dX0_typeOf_14 ?_
    refine lv_iload_n hx hb dX0_typeOf_17 rfl (lv_at hl 1 rfl) ?_
    obtain ⟨b23, hr0, hw⟩ := hw
    subst hr0
    obtain ⟨n0, f0, v24, hM0, hi0, hr0, hw⟩ := hw
    refine z_aald hC hZ hM0 (by decide) rfl hi0 hr0 dX0_typeOf_18 ?_
    obtain ⟨b25, hr0, hw⟩ := hw
    subst hr0
    rcases hw with hw | hw | hw
    · obtain ⟨⟨ci0, fs0, hci0, hM0⟩, hw⟩ := hw
      obtain ⟨C0, T0, N0, ty0, hc0, hsel0, hf0⟩ : ∃ (C0 : String) (T0 : u_T) (N0 : Nat) (ty0 : Nat → FieldType), zCls ci0 C0 T0 N0 ty0 ∧ Cond.selects C0 ⟨"PluralBranches$Thing", "type", "()I"⟩ yX25_type ∈ lw_all ∧ (C0, ⟨"PluralBranches$Thing", "type", "()I"⟩, yX25_type) ∈ zFs := (zal ⟨_, _, _, _, zc22, q1253, List.mem_of_getElem? (i := 4) rfl⟩ (za0) : ∀ ci ∈ [22], ∃ (C0 : String) (T0 : u_T) (N0 : Nat) (ty0 : Nat → FieldType), zCls ci C0 T0 N0 ty0 ∧ Cond.selects C0 ⟨"PluralBranches$Thing", "type", "()I"⟩ yX25_type ∈ lw_all ∧ (C0, ⟨"PluralBranches$Thing", "type", "()I"⟩, yX25_type) ∈ zFs) ci0 hci0
      refine z_callI5 hZ (vx_runF (As := []) (rest := []) (hC.vK.1 _ _ hc0.1).2 hC.fix (w_X25_type hlt hw) (va_cwF 0 hts (lw_app (zal q1237 (zal hsel0 (zal q1255 (zal q109 za0)))) (lw_meth q1257)) rfl rfl rfl (hC.K.2.2.2.1 _ hf0) (by decide +kernel) ⟨Nat.le_of_ble_eq_true rfl, Nat.le_of_ble_eq_true rfl⟩) (z_preV hC hZ hM0 hc0) rfl rfl hl.1 rfl (lv_room (Nat.zero_le _)) dX0_typeOf_19 ⟨hk, hn⟩) (fun r26 M H locs hw1 hZ => ?_) (fun q M H locs ci fs E T9 N9 hw hZ hc1 hM1 hb1 => False.elim hw)
      replace hw := hw1
      clear hw1
      refine W.cs (cells' := cells) (slots' := slots) rfl rfl ?_
      exact wk_X0_typeOf_L24 hG _ _ hk hn hZ (lv_sub hl [] rfl) hw
    · obtain ⟨⟨ci0, fs0, hci0, hM0⟩, hw⟩ := hw
      obtain ⟨C0, T0, N0, ty0, hc0, hsel0, hf0⟩ : ∃ (C0 : String) (T0 : u_T) (N0 : Nat) (ty0 : Nat → FieldType), zCls ci0 C0 T0 N0 ty0 ∧ Cond.selects C0 ⟨"PluralBranches$Thing", "type", "()I"⟩ yX26_type ∈ lw_all ∧ (C0, ⟨"PluralBranches$Thing", "type", "()I"⟩, yX26_type) ∈ zFs := (zal ⟨_, _, _, _, zc23, q1241, List.mem_of_getElem? (i := 2) rfl⟩ (za0) : ∀ ci ∈ [23], ∃ (C0 : String) (T0 : u_T) (N0 : Nat) (ty0 : Nat → FieldType), zCls ci C0 T0 N0 ty0 ∧ Cond.selects C0 ⟨"PluralBranches$Thing", "type", "()I"⟩ yX26_type ∈ lw_all ∧ (C0, ⟨"PluralBranches$Thing", "type", "()I"⟩, yX26_type) ∈ zFs) ci0 hci0
      refine z_callI5 hZ (vx_runF (As := []) (rest := []) (hC.vK.1 _ _ hc0.1).2 hC.fix (w_X26_type hlt hw) (va_cwF 0 hts (lw_app (zal q1237 (zal hsel0 (zal q1243 (zal q110 za0)))) (lw_meth q1245)) rfl rfl rfl (hC.K.2.2.2.1 _ hf0) (by decide +kernel) ⟨Nat.le_of_ble_eq_true rfl, Nat.le_of_ble_eq_true rfl⟩) (z_preV hC hZ hM0 hc0) rfl rfl hl.1 rfl (lv_room (Nat.zero_le _)) dX0_typeOf_19 ⟨hk, hn⟩) (fun r29 M H locs hw1 hZ => ?_) (fun q M H locs ci fs E T9 N9 hw hZ hc1 hM1 hb1 => False.elim hw)
      replace hw := hw1
      clear hw1
      refine W.cs (cells' := cells) (slots' := slots) rfl rfl ?_
      exact wk_X0_typeOf_L24 hG _ _ hk hn hZ (lv_sub hl [] rfl) hw
    · obtain ⟨⟨ci0, fs0, hci0, hM0⟩, hw⟩ := hw
      obtain ⟨C0, T0, N0, ty0, hc0, hsel0, hf0⟩ : ∃ (C0 : String) (T0 : u_T) (N0 : Nat) (ty0 : Nat → FieldType), zCls ci0 C0 T0 N0 ty0 ∧ Cond.selects C0 ⟨"PluralBranches$Thing", "type", "()I"⟩ yX27_type ∈ lw_all ∧ (C0, ⟨"PluralBranches$Thing", "type", "()I"⟩, yX27_type) ∈ zFs := (zal ⟨_, _, _, _, zc24, q1247, List.mem_of_getElem? (i := 3) rfl⟩ (za0) : ∀ ci ∈ [24], ∃ (C0 : String) (T0 : u_T) (N0 : Nat) (ty0 : Nat → FieldType), zCls ci C0 T0 N0 ty0 ∧ Cond.selects C0 ⟨"PluralBranches$Thing", "type", "()I"⟩ yX27_type ∈ lw_all ∧ (C0, ⟨"PluralBranches$Thing", "type", "()I"⟩, yX27_type) ∈ zFs) ci0 hci0
      refine z_callI5 hZ (vx_runF (As := []) (rest := []) (hC.vK.1 _ _ hc0.1).2 hC.fix (w_X27_type hlt hw) (va_cwF 0 hts (lw_app (zal q1237 (zal hsel0 (zal q1249 (zal q111 za0)))) (lw_meth q1251)) rfl rfl rfl (hC.K.2.2.2.1 _ hf0) (by decide +kernel) ⟨Nat.le_of_ble_eq_true rfl, Nat.le_of_ble_eq_true rfl⟩) (z_preV hC hZ hM0 hc0) rfl rfl hl.1 rfl (lv_room (Nat.zero_le _)) dX0_typeOf_19 ⟨hk, hn⟩) (fun r32 M H locs hw1 hZ => ?_) (fun q M H locs ci fs E T9 N9 hw hZ hc1 hM1 hb1 => False.elim hw)
      replace hw := hw1
      clear hw1
      refine W.cs (cells' := cells) (slots' := slots) rfl rfl ?_
      exact wk_X0_typeOf_L24 hG _ _ hk hn hZ (lv_sub hl [] rfl) hw
  · replace hw := hw.2 hr0
    refine lv_iconst (v := 0) hx hb dX0_typeOf_9 (by decide) ?_
    refine lv_goto (tgt := 24) hx hb dX0_typeOf_10 (by decide) ?_
    exact wk_X0_typeOf_L24 hG _ _ hk hn hZ (lv_sub hl [] rfl) hw
abbrev rm_X25_decimal : Room := { frames := 1, cells := 0, slots := 0, locals := 64 }
def wp_X25_decimal (D : zD) (post : Option Nat → zM → Prop) (o : Nat) (a0 : Int32) (M : zM) : Prop :=
    (zgR M o 22 0 fun g1 => post g1 M)
set_option maxHeartbeats 4000000 in
set_option maxRecDepth 100000 in
theorem w_X25_decimal {l : Launch} {D : zD} {post : Option Nat → zM → Prop} (hlt : l.stackTraces = false) {o : Nat} {a0 : Int32} {M : zM} (hw : wp_X25_decimal D post o a0 M) : zMet l D yX25_decimal (ws_ yX25_decimal cX25_decimal 2 (some (.object "PluralBranches$Decimal"))) rm_X25_decimal 0 0 [.ref o, .int a0] M zR post (fun _ _ => False) := by
  unfold wp_X25_decimal at hw
  have hlv : lv_args 0 [.ref o, .int a0] = [(0, .ref o), (1, .int a0)] := (zargs1 rfl (zargs1 rfl rfl))
  refine z_ofW hlt (by decide) (Nat.le_trans (zsl1 rfl (zsl1 rfl (Nat.le_refl 0 : (lg_sl []).length ≤ 0))) (Nat.le_of_ble_eq_true rfl)) hlv ?_
  intro p e s m args below meth c ls hG hZ hl
  have hC := hG.1
  have hx := hC.x
  have hb := hC.b
  have hown := hC.o
  have hts := hC.ts
  have hlt := hG.2.2.2.2.2
  obtain ⟨cells, hce⟩ : ∃ z : Nat, z = 0 := ⟨0, rfl⟩
  obtain ⟨slots, hsl⟩ : ∃ z : Nat, z = 0 := ⟨0, rfl⟩
  refine W.cs (cells' := cells) (slots' := slots) hce.symm hsl.symm ?_
  have hk : cells ≤ 0 := Nat.le_of_eq hce
  have hn : slots ≤ 0 := Nat.le_of_eq hsl
  clear hce hsl
  refine lv_aload_n hx hb dX25_decimal_0 rfl (lv_at hl 0 rfl) ?_
  obtain ⟨fs0, g2, hM0, hx0, hw⟩ := hw
  refine z_get hC hZ hM0 zc22 0 (by decide) q1180 (fun _ h9 => h9) hx0 dX25_decimal_1 ?_
  exact z_aret (r := g2) hG (Or.inl ⟨_, rfl⟩) hZ hk hn hw dX25_decimal_4
abbrev rm_X15_init : Room := { frames := 4, cells := 0, slots := 0, locals := 136 }
def wp_X15_init (D : zD) (post : Unit → zM → Prop) (o : Nat) (a0 : Int32) (M : zM) : Prop :=
    (wp_J10_init D (fun _ M => (zp D M o 13 6 (.int a0) fun M => post () M)) o none none (0 : Int32) (0 : Int32) M)
set_option maxHeartbeats 4000000 in
set_option maxRecDepth 100000 in
theorem w_X15_init {l : Launch} {D : zD} {post : Unit → zM → Prop} (hlt : l.stackTraces = false) {o : Nat} {a0 : Int32} {M : zM} (hw : wp_X15_init D post o a0 M) : zMet l D yX15_init (ws_ yX15_init cX15_init 2 (none)) rm_X15_init 0 0 [.ref o, .int a0] M zU post (fun _ _ => False) := by
  unfold wp_X15_init at hw
  have hlv : lv_args 0 [.ref o, .int a0] = [(0, .ref o), (1, .int a0)] := (zargs1 rfl (zargs1 rfl rfl))
  refine z_ofW hlt (by decide) (Nat.le_trans (zsl1 rfl (zsl1 rfl (Nat.le_refl 0 : (lg_sl []).length ≤ 0))) (Nat.le_of_ble_eq_true rfl)) hlv ?_
  intro p e s m args below meth c ls hG hZ hl
  have hC := hG.1
  have hx := hC.x
  have hb := hC.b
  have hown := hC.o
  have hts := hC.ts
  have hlt := hG.2.2.2.2.2
  obtain ⟨cells, hce⟩ : ∃ z : Nat, z = 0 := ⟨0, rfl⟩
  obtain ⟨slots, hsl⟩ : ∃ z : Nat, z = 0 := ⟨0, rfl⟩
  refine W.cs (cells' := cells) (slots' := slots) hce.symm hsl.symm ?_
  have hk : cells ≤ 0 := Nat.le_of_eq hce
  have hn : slots ≤ 0 := Nat.le_of_eq hsl
  clear hce hsl
  refine lv_aload_n hx hb dX15_init_0 rfl (lv_at hl 0 rfl) ?_
  refine z_null hC dX15_init_1 ?_
  refine z_null hC dX15_init_2 ?_
  refine lv_iconst (v := 0) hx hb dX15_init_3 (by decide) ?_
  refine lv_iconst (v := 0) hx hb dX15_init_4 (by decide) ?_
  refine z_callU hZ (vx_runI (As := [va_rf none, va_rf none, .int (0 : Int32), .int (0 : Int32)]) (rest := []) hC.fix (w_J10_init hlt hw) (cwI 4 hts (lw_meth q694) rfl rfl rfl (hts _ q93) (hts _ q692) (hts _ q693) rfl dd_J10_init ⟨Nat.le_of_ble_eq_true rfl, Nat.le_of_ble_eq_true rfl⟩) (z_preS hC hZ) rfl rfl hl.1 rfl (lv_room (Nat.zero_le _)) dX15_init_5 ⟨hk, hn⟩) (fun r5 M H locs hw1 hZ => ?_) (fun q M H locs ci fs E T9 N9 hw hZ hc1 hM1 hb1 => False.elim hw)
  replace hw := hw1
  clear hw1
  refine W.cs (cells' := cells) (slots' := slots) rfl rfl ?_
  refine lv_aload_n hx hb dX15_init_8 rfl (lv_at hl 0 rfl) ?_
  refine lv_iload_n hx hb dX15_init_9 rfl (lv_at hl 1 rfl) ?_
  obtain ⟨fs0, hM0, hb0, hk0, hw⟩ := hw
  refine z_putF hC hZ hM0 hb0 zc13 6 (by decide) q701 (fun _ h9 => h9) (by decide) hG.2.2.2.1 rfl rfl rfl hk0 dX15_init_10 (fun H locs hZ => ?_)
  generalize zu M _ _ = M at hw hZ
  exact z_vret hG hZ hk hn hw dX15_init_13
abbrev rm_X29_decimal (K N : Nat) : Room := { frames := 5, cells := K, slots := N, locals := 157 }
def wp_X29_decimal (D : zD) (post : Option Nat → zM → Prop) (xp : Nat → zM → Prop) (k : Nat) (n : Nat) (o : Nat) (a0 : Int32) (M : zM) : Prop :=
    (znew D M 13 7 [.null, .null, .null, .null, .null, .int 0, .int 0] k n fun b1 M => (wp_X15_init D (fun _ M => (zth D M b1 ∧ xp b1 M)) b1 ((-20 : Int32) - a0) M))
set_option maxHeartbeats 4000000 in
set_option maxRecDepth 100000 in
theorem w_X29_decimal {l : Launch} {D : zD} {post : Option Nat → zM → Prop} {xp : Nat → zM → Prop} (hlt : l.stackTraces = false) {k : Nat} {n : Nat} {o : Nat} {a0 : Int32} {M : zM} (hw : wp_X29_decimal D post xp k n o a0 M) : zMet l D yX29_decimal (ws_ yX29_decimal cX29_decimal 2 (some (.object "PluralBranches$Decimal"))) (rm_X29_decimal k n) k n [.ref o, .int a0] M zR post xp := by
  unfold wp_X29_decimal at hw
  have hlv : lv_args 0 [.ref o, .int a0] = [(0, .ref o), (1, .int a0)] := (zargs1 rfl (zargs1 rfl rfl))
  refine z_ofW hlt (by decide) (Nat.le_trans (zsl1 rfl (zsl1 rfl (Nat.le_refl 0 : (lg_sl []).length ≤ 0))) (Nat.le_of_ble_eq_true rfl)) hlv ?_
  intro p e s m args below meth c ls hG hZ hl
  have hC := hG.1
  have hx := hC.x
  have hb := hC.b
  have hown := hC.o
  have hts := hC.ts
  have hlt := hG.2.2.2.2.2
  obtain ⟨cells, hce⟩ : ∃ z : Nat, z = 0 := ⟨0, rfl⟩
  obtain ⟨slots, hsl⟩ : ∃ z : Nat, z = 0 := ⟨0, rfl⟩
  refine W.cs (cells' := cells) (slots' := slots) hce.symm hsl.symm ?_
  have hk : cells + k ≤ k := by omega
  have hn : slots + n ≤ n := by omega
  clear hce hsl
  obtain ⟨hk1, hn1, hw⟩ := hw
  refine z_new (fs := [.null, .null, .null, .null, .null, .int 0, .int 0]) hC hZ zc13 q1324 q649 q94 (zdefs (N := 7) (ty := tyX15) (fs := [.null, .null, .null, .null, .null, .int 0, .int 0]) (by decide)) (show cells + 1 ≤ k by omega) (show slots + 7 ≤ n by omega) dX29_decimal_0 (fun b5 H hq0 hq1 hZ => ?_)
  replace hw := hw b5 hq0 hq1
  generalize zu M _ _ = M at hw hZ
  have hk : cells + 1 + (k - 1) ≤ k := by omega
  have hn : slots + 7 + (n - 7) ≤ n := by omega
  generalize cells + 1 = cells at hk ⊢
  generalize slots + 7 = slots at hn ⊢
  clear hk1 hn1
  refine lv_dup hx hb dX29_decimal_3 rfl ?_
  refine lv_bipush (v := (-20)) hx hb dX29_decimal_4 (by decide) ?_
  refine lv_iload_n hx hb dX29_decimal_6 rfl (lv_at hl 1 rfl) ?_
  refine lv_isub hx hb dX29_decimal_7 ?_
  refine z_callU hZ (vx_runI (As := [.int ((-20 : Int32) - a0)]) (rest := [.ref b5]) hC.fix (w_X15_init hlt hw) (cwI 1 hts (lw_meth q691) rfl rfl rfl (hts _ q94) (hts _ q1325) (hts _ q690) rfl dd_X15_init ⟨Nat.le_of_ble_eq_true rfl, Nat.le_of_ble_eq_true rfl⟩) (z_preS hC hZ) rfl rfl hl.1 rfl (lv_room (Nat.le_trans (zrm1 rfl zrm0) (Nat.le_of_ble_eq_true rfl))) dX29_decimal_8 ⟨(show cells + 0 ≤ k by omega), (show slots + 0 ≤ n by omega)⟩) (fun r6 M H locs hw1 hZ => ?_) (fun q M H locs ci fs E T9 N9 hw hZ hc1 hM1 hb1 => False.elim hw)
  replace hw := hw1
  clear hw1
  refine W.cs (cells' := cells) (slots' := slots) rfl rfl ?_
  obtain ⟨⟨ci0, fs0, hci0, hM0, hb0⟩, hw⟩ := hw
  obtain ⟨E0, T0, N0, hc0⟩ := z_cl hci0
  refine vx_athrow hx hb dX29_decimal_11 ?_
  exact z_out hG hZ hM0 hb0 hc0 za0 (by omega) (by omega) hw
abbrev rm_X0_tens : Room := { frames := 1, cells := 0, slots := 0, locals := 64 }
def wp_X0_tens_L4 (D : zD) (post : Int64 → zM → Prop) : Nat → Int32 → Int64 → Int32 → zM → Prop
  | 0 => fun _ _ _ _ => False
  | f + 1 => fun x0 x1 x3 M =>
    ((x0 ≤ x3 → post x1 M) ∧ (¬ x0 ≤ x3 → wp_X0_tens_L4 D post f x0 (x1 * (10 : Int64)) (x3 + 1) M))
set_option maxHeartbeats 4000000 in
set_option maxRecDepth 100000 in
theorem wk_X0_tens_L4 {p : Program} {l : Launch} {e : Env} {s : State} {m : MethodId} {args : Array Value} {below : List Frame} {meth : Method} {c : Code} {D : zD} {post : Int64 → zM → Prop} (hG : zGx p l s m args meth c cX0_tens 4 "PluralBranches" D (some .long) "tens" []) : ∀ (f : Nat), ∀ {H : Heap} {locs : List Loc} {cells slots : Nat} {ls : Array Slot} (x0 : Int32) (x1 : Int64) (x3 : Int32) (M : zM), cells ≤ 0 → slots ≤ 0 → zS D M H locs → lv_has ls 4 [(0, .int x0), (1, .long x1), (3, .int x3)] → wp_X0_tens_L4 D post f x0 x1 x3 M → W p l e rm_X0_tens s m args below meth c H locs cells slots (vx_MQ below (zQ D zL post) (zX D (fun _ _ => False)) args s 0 0 (zA D)) (F0 m 4 ls []) := by
  have hC := hG.1
  have hx := hC.x
  have hb := hC.b
  have hown := hC.o
  have hts := hC.ts
  have hlt := hG.2.2.2.2.2
  intro f
  induction f with
  | zero =>
    intro H locs cells slots ls x0 x1 x3 M hk hn hZ hl hw
    exact absurd hw (fun h => h)
  | succ f ih =>
    intro H locs cells slots ls x0 x1 x3 M hk hn hZ hl hw
    refine lv_iload_n hx hb dX0_tens_4 rfl (lv_at hl 2 rfl) ?_
    refine lv_iload_n hx hb dX0_tens_5 rfl (lv_at hl 0 rfl) ?_
    refine lv_icmp_ge (tgt := 21) hx hb dX0_tens_6 (by decide) (fun c2 => ?_) (fun c2 => ?_)
    · replace hw := hw.1 c2
      refine lv_lload_n hx hb dX0_tens_21 rfl (lv_at hl 1 rfl) ?_
      exact z_lret hG hZ hk hn hw dX0_tens_22
    · replace hw := hw.2 c2
      refine lv_lload_n hx hb dX0_tens_9 rfl (lv_at hl 1 rfl) ?_
      refine lv_ldc2 hx hb hown (hts _ q144) dX0_tens_10 ?_
      refine lv_lmul hx hb dX0_tens_13 ?_
      refine lv_lstore_n (i := 1) (lv' := [(1, .long (x1 * (10 : Int64))), (0, .int x0), (3, .int x3)]) hx hb dX0_tens_14 rfl hl (by decide) rfl (fun ls hl1 => ?_)
      replace hl := hl1
      clear hl1
      refine lv_iinc (v := (x3 + 1)) (lv' := [(3, .int (x3 + 1)), (1, .long (x1 * (10 : Int64))), (0, .int x0)]) hx hb dX0_tens_15 hl (k := 2) rfl rfl (by decide) rfl (fun ls hl1 => ?_)
      replace hl := hl1
      clear hl1
      refine lv_goto (tgt := 4) hx hb dX0_tens_18 (by decide) ?_
      exact ih _ _ _ _ hk hn hZ (lv_sub hl [2, 1, 0] rfl) hw
def wp_X0_tens (D : zD) (post : Int64 → zM → Prop) (a0 : Int32) (M : zM) : Prop :=
    (∃ f, wp_X0_tens_L4 D post f a0 (1 : Int64) (0 : Int32) M)
set_option maxHeartbeats 4000000 in
set_option maxRecDepth 100000 in
theorem w_X0_tens {l : Launch} {D : zD} {post : Int64 → zM → Prop} (hlt : l.stackTraces = false) {a0 : Int32} {M : zM} (hw : wp_X0_tens D post a0 M) : zMet l D yX0_tens (ws_ yX0_tens cX0_tens 4 (some .long)) rm_X0_tens 0 0 [.int a0] M zL post (fun _ _ => False) := by
  unfold wp_X0_tens at hw
  have hlv : lv_args 0 [.int a0] = [(0, .int a0)] := (zargs1 rfl rfl)
  refine z_ofW hlt (by decide) (Nat.le_trans (zsl1 rfl (Nat.le_refl 0 : (lg_sl []).length ≤ 0)) (Nat.le_of_ble_eq_true rfl)) hlv ?_
  intro p e s m args below meth c ls hG hZ hl
  have hC := hG.1
  have hx := hC.x
  have hb := hC.b
  have hown := hC.o
  have hts := hC.ts
  have hlt := hG.2.2.2.2.2
  obtain ⟨cells, hce⟩ : ∃ z : Nat, z = 0 := ⟨0, rfl⟩
  obtain ⟨slots, hsl⟩ : ∃ z : Nat, z = 0 := ⟨0, rfl⟩
  refine W.cs (cells' := cells) (slots' := slots) hce.symm hsl.symm ?_
  have hk : cells ≤ 0 := Nat.le_of_eq hce
  have hn : slots ≤ 0 := Nat.le_of_eq hsl
  clear hce hsl
  refine lv_lconst (v := 1) hx hb dX0_tens_0 (by decide) ?_
  refine lv_lstore_n (i := 1) (lv' := [(1, .long (1 : Int64)), (0, .int a0)]) hx hb dX0_tens_1 rfl hl (by decide) rfl (fun ls hl1 => ?_)
  replace hl := hl1
  clear hl1
  refine lv_iconst (v := 0) hx hb dX0_tens_2 (by decide) ?_
  refine lv_istore_n (i := 3) (lv' := [(3, .int (0 : Int32)), (1, .long (1 : Int64)), (0, .int a0)]) hx hb dX0_tens_3 rfl hl (by decide) rfl (fun ls hl1 => ?_)
  replace hl := hl1
  clear hl1
  obtain ⟨f1, hw⟩ := hw
  exact wk_X0_tens_L4 hG f1 _ _ _ _ hk hn hZ (lv_sub hl [2, 1, 0] rfl) hw
abbrev rm_X0_at (K N : Nat) : Room := { frames := 13, cells := K, slots := N, locals := 229 }
def wp_X0_at_L12 (D : zD) (post : Int32 → zM → Prop) (xp : Nat → zM → Prop) (o : Nat) (k : Nat) (n : Nat) (x2 : Int32) (y0 : Option Nat) (M : zM) : Prop :=
    ((zd y0 fun b1 => zgI M b1 1 0 fun g2 => (zgI M b1 1 1 fun g3 => (wp_X0_tens D (fun r4 M => ((∃ k8 n9, k8 ≤ k ∧ n9 ≤ n ∧ wp_J0_multiplyExact D (fun r7 M => ((∃ k11 n12, k11 ≤ (k - k8) ∧ n12 ≤ (n - n9) ∧ wp_J0_toIntExact D (fun r10 M => post r10 M) xp k11 n12 r7 M))) xp k8 n9 (g2.toInt64) r4 M))) (x2 - g3) M))))
set_option maxHeartbeats 4000000 in
set_option maxRecDepth 100000 in
theorem wk_X0_at_L12 {p : Program} {l : Launch} {e : Env} {s : State} {m : MethodId} {args : Array Value} {below : List Frame} {meth : Method} {c : Code} {D : zD} {post : Int32 → zM → Prop} {xp : Nat → zM → Prop} {K N : Nat} {o : Nat} (hG : zGx p l s m args meth c cX0_at 4 "PluralBranches" D (some .int) "at" []) : ∀ {H : Heap} {locs : List Loc} {cells slots : Nat} {ls : Array Slot} (k : Nat) (n : Nat) (x2 : Int32) (y0 : Option Nat) (M : zM), cells + k ≤ K → slots + n ≤ N → zS D M H locs → lv_has ls 4 [(2, .int x2)] → wp_X0_at_L12 D post xp o k n x2 y0 M → W p l e (rm_X0_at K N) s m args below meth c H locs cells slots (vx_MQ below (zQ D zI post) (zX D xp) args s K N (zA D)) (F0 m 12 ls [va_rf y0]) := by
  have hC := hG.1
  have hx := hC.x
  have hb := hC.b
  have hown := hC.o
  have hts := hC.ts
  have hlt := hG.2.2.2.2.2
  intro H locs cells slots ls k n x2 y0 M hk hn hZ hl hw
  refine z_astore_n (i := 3) (lv' := [(3, va_rf y0), (2, .int x2)]) hC dX0_at_12 rfl hl (by decide) rfl (fun ls hl1 => ?_)
  replace hl := hl1
  clear hl1
  refine z_aload_n hC dX0_at_13 rfl (lv_at hl 0 rfl) ?_
  obtain ⟨b13, hr0, hw⟩ := hw
  subst hr0
  obtain ⟨fs0, g14, hM0, hx0, hw⟩ := hw
  refine z_getN hC hZ hM0 zc1 0 (by decide) q152 (fun _ h9 => h9) hx0 dX0_at_14 ?_
  refine lv_i2l hx hb dX0_at_17 rfl ?_
  refine lv_iload_n hx hb dX0_at_18 rfl (lv_at hl 1 rfl) ?_
  refine lv_aload_n hx hb dX0_at_19 rfl (lv_at hl 0 rfl) ?_
  obtain ⟨fs0, g15, hM0, hx0, hw⟩ := hw
  refine z_getN hC hZ hM0 zc1 1 (by decide) q156 (fun _ h9 => h9) hx0 dX0_at_20 ?_
  refine lv_isub hx hb dX0_at_23 ?_
  refine z_callL hZ (vx_runS (As := [.int (x2 - g15)]) (rest := [.long (g14.toInt64)]) hC.fix (w_X0_tens hlt hw) (va_cwS 1 hts (lw_S q1337 q142 q67 q143) rfl rfl rfl dd_X0_tens ⟨Nat.le_of_ble_eq_true rfl, Nat.le_of_ble_eq_true rfl⟩) (z_preS hC hZ) rfl rfl hl.1 rfl (lv_room (Nat.le_trans (zrm2 rfl zrm0) (Nat.le_of_ble_eq_true rfl))) dX0_at_24 ⟨(show cells + 0 ≤ K by omega), (show slots + 0 ≤ N by omega)⟩) (fun r16 M H locs hw1 hZ => ?_) (fun q M H locs ci fs E T9 N9 hw hZ hc1 hM1 hb1 => False.elim hw)
  replace hw := hw1
  clear hw1
  refine W.cs (cells' := cells) (slots' := slots) rfl rfl ?_
  obtain ⟨k20, n21, hk1, hn1, hw⟩ := hw
  refine z_callL hZ (vx_runS (As := [.long (g14.toInt64), .long r16]) (rest := []) hC.fix (w_J0_multiplyExact hlt hw) (va_cwS 2 hts (lw_S q1338 q1339 q69 q1340) rfl rfl rfl dd_J0_multiplyExact ⟨Nat.le_of_ble_eq_true rfl, Nat.le_of_ble_eq_true rfl⟩) (z_preS hC hZ) rfl rfl hl.1 rfl (lv_room (Nat.zero_le _)) dX0_at_27 ⟨(show cells + k20 ≤ K by omega), (show slots + n21 ≤ N by omega)⟩) (fun r19 M H locs hw1 hZ => ?_) (fun q M H locs ci fs E T9 N9 hw1 hZ hc1 hM1 hb1 => ?_)
  · replace hw := hw1
    clear hw1
    have hk : cells + k20 + (k - k20) ≤ K := by omega
    have hn : slots + n21 + (n - n21) ≤ N := by omega
    generalize cells + k20 = cells at hk ⊢
    generalize slots + n21 = slots at hn ⊢
    clear hk1 hn1
    obtain ⟨k23, n24, hk1, hn1, hw⟩ := hw
    refine z_callI hZ (vx_runS (As := [.long r19]) (rest := []) hC.fix (w_J0_toIntExact hlt hw) (va_cwS 1 hts (lw_S q1347 q1348 q69 q1349) rfl rfl rfl dd_J0_toIntExact ⟨Nat.le_of_ble_eq_true rfl, Nat.le_of_ble_eq_true rfl⟩) (z_preS hC hZ) rfl rfl hl.1 rfl (lv_room (Nat.zero_le _)) dX0_at_30 ⟨(show cells + k23 ≤ K by omega), (show slots + n24 ≤ N by omega)⟩) (fun r22 M H locs hw1 hZ => ?_) (fun q M H locs ci fs E T9 N9 hw1 hZ hc1 hM1 hb1 => ?_)
    · replace hw := hw1
      clear hw1
      have hk : cells + k23 + ((k - k20) - k23) ≤ K := by omega
      have hn : slots + n24 + ((n - n21) - n24) ≤ N := by omega
      generalize cells + k23 = cells at hk ⊢
      generalize slots + n24 = slots at hn ⊢
      clear hk1 hn1
      exact z_iret hG hZ (by omega) (by omega) hw dX0_at_33
    · replace hw := hw1
      clear hw1
      exact z_out hG hZ hM1 hb1 hc1 za0 (by omega) (by omega) hw
  · replace hw := hw1
    clear hw1
    exact z_out hG hZ hM1 hb1 hc1 za0 (by omega) (by omega) hw
def wp_X0_at (D : zD) (post : Int32 → zM → Prop) (xp : Nat → zM → Prop) (k : Nat) (n : Nat) (o : Nat) (a0 : Int32) (a1 : Int32) (M : zM) : Prop :=
    (zgR M o 0 6 fun g25 => ((zd g25 fun b26 => zaR M b26 9 a0 fun v27 => ((zd v27 fun b28 => ((zis M b28 [22] ∧ wp_X25_decimal D (fun r29 M => wp_X0_at_L12 D post xp o k n a1 r29 M) b28 a0 M) ∨ (zis M b28 [23, 24] ∧ (∃ k33 n34, k33 ≤ k ∧ n34 ≤ n ∧ wp_X29_decimal D (fun r32 M => wp_X0_at_L12 D post xp o (k - k33) (n - n34) a1 r32 M) xp k33 n34 b28 a0 M))))))))
set_option maxHeartbeats 4000000 in
set_option maxRecDepth 100000 in
theorem w_X0_at {l : Launch} {D : zD} {post : Int32 → zM → Prop} {xp : Nat → zM → Prop} (hlt : l.stackTraces = false) {k : Nat} {n : Nat} {o : Nat} {a0 : Int32} {a1 : Int32} {M : zM} (hw : wp_X0_at D post xp k n o a0 a1 M) : zMet l D yX0_at (ws_ yX0_at cX0_at 4 (some .int)) (rm_X0_at k n) k n [.ref o, .int a0, .int a1] M zI post xp := by
  unfold wp_X0_at at hw
  have hlv : lv_args 0 [.ref o, .int a0, .int a1] = [(0, .ref o), (1, .int a0), (2, .int a1)] := (zargs1 rfl (zargs1 rfl (zargs1 rfl rfl)))
  refine z_ofW hlt (by decide) (Nat.le_trans (zsl1 rfl (zsl1 rfl (zsl1 rfl (Nat.le_refl 0 : (lg_sl []).length ≤ 0)))) (Nat.le_of_ble_eq_true rfl)) hlv ?_
  intro p e s m args below meth c ls hG hZ hl
  have hC := hG.1
  have hx := hC.x
  have hb := hC.b
  have hown := hC.o
  have hts := hC.ts
  have hlt := hG.2.2.2.2.2
  obtain ⟨cells, hce⟩ : ∃ z : Nat, z = 0 := ⟨0, rfl⟩
  obtain ⟨slots, hsl⟩ : ∃ z : Nat, z = 0 := ⟨0, rfl⟩
  refine W.cs (cells' := cells) (slots' := slots) hce.symm hsl.symm ?_
  have hk : cells + k ≤ k := by omega
  have hn : slots + n ≤ n := by omega
  clear hce hsl
  refine lv_aload_n hx hb dX0_at_0 rfl (lv_at hl 0 rfl) ?_
  obtain ⟨fs0, g35, hM0, hx0, hw⟩ := hw
  refine z_get hC hZ hM0 zc0 6 (by decide) q407 (fun _ h9 => h9) hx0 dX0_at_1 ?_
  refine lv_iload_n hx hb dX0_at_4 rfl (lv_at hl 1 rfl) ?_
  obtain ⟨b36, hr0, hw⟩ := hw
  subst hr0
  obtain ⟨n0, f0, v37, hM0, hi0, hr0, hw⟩ := hw
  refine z_aald hC hZ hM0 (by decide) rfl hi0 hr0 dX0_at_5 ?_
  refine lv_iload_n hx hb dX0_at_6 rfl (lv_at hl 1 rfl) ?_
  obtain ⟨b38, hr0, hw⟩ := hw
  subst hr0
  rcases hw with hw | hw
  · obtain ⟨⟨ci0, fs0, hci0, hM0⟩, hw⟩ := hw
    obtain ⟨C0, T0, N0, ty0, hc0, hsel0, hf0⟩ : ∃ (C0 : String) (T0 : u_T) (N0 : Nat) (ty0 : Nat → FieldType), zCls ci0 C0 T0 N0 ty0 ∧ Cond.selects C0 ⟨"PluralBranches$Thing", "decimal", "(I)LPluralBranches$Decimal;"⟩ yX25_decimal ∈ lw_all ∧ (C0, ⟨"PluralBranches$Thing", "decimal", "(I)LPluralBranches$Decimal;"⟩, yX25_decimal) ∈ zFs := (zal ⟨_, _, _, _, zc22, q1327, List.mem_of_getElem? (i := 8) rfl⟩ (za0) : ∀ ci ∈ [22], ∃ (C0 : String) (T0 : u_T) (N0 : Nat) (ty0 : Nat → FieldType), zCls ci C0 T0 N0 ty0 ∧ Cond.selects C0 ⟨"PluralBranches$Thing", "decimal", "(I)LPluralBranches$Decimal;"⟩ yX25_decimal ∈ lw_all ∧ (C0, ⟨"PluralBranches$Thing", "decimal", "(I)LPluralBranches$Decimal;"⟩, yX25_decimal) ∈ zFs) ci0 hci0
    refine z_callR5 hZ (vx_runF (As := [.int a0]) (rest := []) (hC.vK.1 _ _ hc0.1).2 hC.fix (w_X25_decimal hlt hw) (va_cwF 1 hts (lw_app (zal q1317 (zal hsel0 (zal q1329 (zal q109 za0)))) (lw_meth q1331)) rfl rfl rfl (hC.K.2.2.2.1 _ hf0) (by decide +kernel) ⟨Nat.le_of_ble_eq_true rfl, Nat.le_of_ble_eq_true rfl⟩) (z_preV hC hZ hM0 hc0) rfl rfl hl.1 rfl (lv_room (Nat.zero_le _)) dX0_at_7 ⟨(show cells + 0 ≤ k by omega), (show slots + 0 ≤ n by omega)⟩) (fun r39 M H locs hw1 hZ => ?_) (fun q M H locs ci fs E T9 N9 hw hZ hc1 hM1 hb1 => False.elim hw)
    replace hw := hw1
    clear hw1
    refine W.cs (cells' := cells) (slots' := slots) rfl rfl ?_
    exact wk_X0_at_L12 hG _ _ _ _ _ hk hn hZ (lv_sub hl [2] rfl) hw
  · obtain ⟨⟨ci0, fs0, hci0, hM0⟩, hw⟩ := hw
    obtain ⟨k43, n44, hk1, hn1, hw⟩ := hw
    obtain ⟨C0, T0, N0, ty0, hc0, hin0⟩ : ∃ (C0 : String) (T0 : u_T) (N0 : Nat) (ty0 : Nat → FieldType), zCls ci0 C0 T0 N0 ty0 ∧ C0 ∈ ["PluralBranches$Gendered", "PluralBranches$Listed"] := (zal ⟨_, _, _, _, zc23, by decide⟩ (zal ⟨_, _, _, _, zc24, by decide⟩ (za0)) : ∀ ci ∈ [23, 24], ∃ (C0 : String) (T0 : u_T) (N0 : Nat) (ty0 : Nat → FieldType), zCls ci C0 T0 N0 ty0 ∧ C0 ∈ ["PluralBranches$Gendered", "PluralBranches$Listed"]) ci0 hci0
    refine z_callR5 hZ (z_runDef (As := [.int a0]) (rest := []) hC hin0 (w_X29_decimal hlt hw) (hC.vK.1 _ _ hc0.1).2 q1317 ⟨Nat.le_of_ble_eq_true rfl, Nat.le_of_ble_eq_true rfl⟩ q1321 q2266 (lw_meth q1323) (z_preV hC hZ hM0 hc0) rfl rfl rfl rfl hl.1 rfl (lv_room (Nat.zero_le _)) dX0_at_7 ⟨(show cells + k43 ≤ k by omega), (show slots + n44 ≤ n by omega)⟩) (fun r42 M H locs hw1 hZ => ?_) (fun q M H locs ci fs E T9 N9 hw1 hZ hc1 hM1 hb1 => ?_)
    · replace hw := hw1
      clear hw1
      have hk : cells + k43 + (k - k43) ≤ k := by omega
      have hn : slots + n44 + (n - n44) ≤ n := by omega
      generalize cells + k43 = cells at hk ⊢
      generalize slots + n44 = slots at hn ⊢
      clear hk1 hn1
      exact wk_X0_at_L12 hG _ _ _ _ _ hk hn hZ (lv_sub hl [2] rfl) hw
    · replace hw := hw1
      clear hw1
      exact z_out hG hZ hM1 hb1 hc1 za0 (by omega) (by omega) hw
abbrev rm_X1_init_2 : Room := { frames := 2, cells := 0, slots := 0, locals := 87 }
def wp_X1_init_2_L111 (D : zD) (post : Unit → zM → Prop) (o : Nat) (M : zM) : Prop :=
    post () M
set_option maxHeartbeats 4000000 in
set_option maxRecDepth 100000 in
theorem wk_X1_init_2_L111 {p : Program} {l : Launch} {e : Env} {s : State} {m : MethodId} {args : Array Value} {below : List Frame} {meth : Method} {c : Code} {D : zD} {post : Unit → zM → Prop} {o : Nat} (hG : zGx p l s m args meth c cX1_init_2 5 "PluralBranches$Decimal" D (none) "<init>" []) : ∀ {H : Heap} {locs : List Loc} {cells slots : Nat} {ls : Array Slot} (M : zM), cells ≤ 0 → slots ≤ 0 → zS D M H locs → lv_has ls 5 [] → wp_X1_init_2_L111 D post o M → W p l e rm_X1_init_2 s m args below meth c H locs cells slots (vx_MQ below (zQ D zU post) (zX D (fun _ _ => False)) args s 0 0 (zA D)) (F0 m 111 ls []) := by
  have hC := hG.1
  have hx := hC.x
  have hb := hC.b
  have hown := hC.o
  have hts := hC.ts
  have hlt := hG.2.2.2.2.2
  intro H locs cells slots ls M hk hn hZ hl hw
  exact z_vret hG hZ hk hn hw dX1_init_2_111
def wp_X1_init_2_L66 (D : zD) (post : Unit → zM → Prop) (o : Nat) : Nat → zM → Prop
  | 0 => fun _ => False
  | f + 1 => fun M =>
    (zgI M o 1 4 fun g1 => ((g1 ≤ 0 → wp_X1_init_2_L111 D post o M) ∧ (¬ g1 ≤ 0 → (zgL M o 1 5 fun g2 => ((¬ (lg_cmp (g2 - g2 / (10 : Int64) * (10 : Int64)) (0 : Int64)) = 0 → wp_X1_init_2_L111 D post o M) ∧ ((lg_cmp (g2 - g2 / (10 : Int64) * (10 : Int64)) (0 : Int64)) = 0 → (zgL M o 1 5 fun g3 => (zp D M o 1 5 (.long (g3 / (10 : Int64))) fun M => (zgI M o 1 4 fun g4 => (zp D M o 1 4 (.int (g4 - (1 : Int32))) fun M => wp_X1_init_2_L66 D post o f M))))))))))
set_option maxHeartbeats 4000000 in
set_option maxRecDepth 100000 in
theorem wk_X1_init_2_L66 {p : Program} {l : Launch} {e : Env} {s : State} {m : MethodId} {args : Array Value} {below : List Frame} {meth : Method} {c : Code} {D : zD} {post : Unit → zM → Prop} {o : Nat} (hG : zGx p l s m args meth c cX1_init_2 5 "PluralBranches$Decimal" D (none) "<init>" []) : ∀ (f : Nat), ∀ {H : Heap} {locs : List Loc} {cells slots : Nat} {ls : Array Slot} (M : zM), cells ≤ 0 → slots ≤ 0 → zS D M H locs → lv_has ls 5 [(0, .ref o)] → wp_X1_init_2_L66 D post o f M → W p l e rm_X1_init_2 s m args below meth c H locs cells slots (vx_MQ below (zQ D zU post) (zX D (fun _ _ => False)) args s 0 0 (zA D)) (F0 m 66 ls []) := by
  have hC := hG.1
  have hx := hC.x
  have hb := hC.b
  have hown := hC.o
  have hts := hC.ts
  have hlt := hG.2.2.2.2.2
  intro f
  induction f with
  | zero =>
    intro H locs cells slots ls M hk hn hZ hl hw
    exact absurd hw (fun h => h)
  | succ f ih =>
    intro H locs cells slots ls M hk hn hZ hl hw
    refine lv_aload_n hx hb dX1_init_2_66 rfl (lv_at hl 0 rfl) ?_
    obtain ⟨fs0, g9, hM0, hx0, hw⟩ := hw
    refine z_get hC hZ hM0 zc1 4 (by decide) q161 (fun _ h9 => h9) hx0 dX1_init_2_67 ?_
    refine lv_if_le (tgt := 111) hx hb dX1_init_2_70 (by decide) (fun c16 => ?_) (fun c16 => ?_)
    · replace hw := hw.1 c16
      exact wk_X1_init_2_L111 hG _ hk hn hZ (lv_sub hl [] rfl) hw
    · replace hw := hw.2 c16
      refine lv_aload_n hx hb dX1_init_2_73 rfl (lv_at hl 0 rfl) ?_
      obtain ⟨fs0, g10, hM0, hx0, hw⟩ := hw
      refine z_get hC hZ hM0 zc1 5 (by decide) q162 (fun _ h9 => h9) hx0 dX1_init_2_74 ?_
      refine lv_ldc2 hx hb hown (hts _ q148) dX1_init_2_77 ?_
      refine lv_lrem hx hb dX1_init_2_80 (by decide) ?_
      refine lv_lconst (v := 0) hx hb dX1_init_2_81 (by decide) ?_
      refine W.lcmp hx hb dX1_init_2_82 ?_
      refine lv_if_ne (tgt := 111) hx hb dX1_init_2_83 (by decide) (fun c15 => ?_) (fun c15 => ?_)
      · replace hw := hw.1 c15
        exact wk_X1_init_2_L111 hG _ hk hn hZ (lv_sub hl [] rfl) hw
      · replace hw := hw.2 c15
        refine lv_aload_n hx hb dX1_init_2_86 rfl (lv_at hl 0 rfl) ?_
        refine lv_dup hx hb dX1_init_2_87 rfl ?_
        obtain ⟨fs0, g11, hM0, hx0, hw⟩ := hw
        refine z_get hC hZ hM0 zc1 5 (by decide) q162 (fun _ h9 => h9) hx0 dX1_init_2_88 ?_
        refine lv_ldc2 hx hb hown (hts _ q148) dX1_init_2_91 ?_
        refine lv_ldiv hx hb dX1_init_2_94 (by decide) ?_
        obtain ⟨fs0, hM0, hb0, hk0, hw⟩ := hw
        refine z_put hC hZ hM0 hb0 zc1 5 (by decide) q162 (fun _ h9 => h9) (by decide) rfl rfl hk0 dX1_init_2_95 (fun H locs hZ => ?_)
        generalize zu M _ _ = M at hw hZ
        refine lv_aload_n hx hb dX1_init_2_98 rfl (lv_at hl 0 rfl) ?_
        refine lv_dup hx hb dX1_init_2_99 rfl ?_
        obtain ⟨fs0, g12, hM0, hx0, hw⟩ := hw
        refine z_get hC hZ hM0 zc1 4 (by decide) q161 (fun _ h9 => h9) hx0 dX1_init_2_100 ?_
        refine lv_iconst (v := 1) hx hb dX1_init_2_103 (by decide) ?_
        refine lv_isub hx hb dX1_init_2_104 ?_
        obtain ⟨fs0, hM0, hb0, hk0, hw⟩ := hw
        refine z_put hC hZ hM0 hb0 zc1 4 (by decide) q161 (fun _ h9 => h9) (by decide) rfl rfl hk0 dX1_init_2_105 (fun H locs hZ => ?_)
        generalize zu M _ _ = M at hw hZ
        refine lv_goto (tgt := 66) hx hb dX1_init_2_108 (by decide) ?_
        exact ih _ hk hn hZ (lv_sub hl [0] rfl) hw
def wp_X1_init_2 (D : zD) (post : Unit → zM → Prop) (o : Nat) (a0 : Int32) (a1 : Int32) (M : zM) : Prop :=
    (zp D M o 1 4 (.int (7 : Int32)) fun M => (zp D M o 1 0 (.int a0) fun M => (zp D M o 1 1 (.int a1) fun M => (wp_J0_abs D (fun r17 M => (wp_X0_tens D (fun r20 M => (¬ r20 = 0 ∧ (zp D M o 1 2 (.long (r17 / r20)) fun M => (wp_X0_tens D (fun r23 M => (¬ r23 = 0 ∧ (zp D M o 1 3 (.long (r17 - r17 / r23 * r23)) fun M => (zgL M o 1 3 fun g26 => (zp D M o 1 5 (.long g26) fun M => (zgI M o 1 4 fun g27 => (wp_J0_min D (fun r28 M => (zp D M o 1 4 (.int r28) fun M => (∃ f, wp_X1_init_2_L66 D post o f M))) g27 a1 M))))))) a1 M)))) a1 M)) (a0.toInt64) M))))
set_option maxHeartbeats 4000000 in
set_option maxRecDepth 100000 in
theorem w_X1_init_2 {l : Launch} {D : zD} {post : Unit → zM → Prop} (hlt : l.stackTraces = false) {o : Nat} {a0 : Int32} {a1 : Int32} {M : zM} (hw : wp_X1_init_2 D post o a0 a1 M) : zMet l D yX1_init_2 (ws_ yX1_init_2 cX1_init_2 5 (none)) rm_X1_init_2 0 0 [.ref o, .int a0, .int a1] M zU post (fun _ _ => False) := by
  unfold wp_X1_init_2 at hw
  have hlv : lv_args 0 [.ref o, .int a0, .int a1] = [(0, .ref o), (1, .int a0), (2, .int a1)] := (zargs1 rfl (zargs1 rfl (zargs1 rfl rfl)))
  refine z_ofW hlt (by decide) (Nat.le_trans (zsl1 rfl (zsl1 rfl (zsl1 rfl (Nat.le_refl 0 : (lg_sl []).length ≤ 0)))) (Nat.le_of_ble_eq_true rfl)) hlv ?_
  intro p e s m args below meth c ls hG hZ hl
  have hC := hG.1
  have hx := hC.x
  have hb := hC.b
  have hown := hC.o
  have hts := hC.ts
  have hlt := hG.2.2.2.2.2
  obtain ⟨cells, hce⟩ : ∃ z : Nat, z = 0 := ⟨0, rfl⟩
  obtain ⟨slots, hsl⟩ : ∃ z : Nat, z = 0 := ⟨0, rfl⟩
  refine W.cs (cells' := cells) (slots' := slots) hce.symm hsl.symm ?_
  have hk : cells ≤ 0 := Nat.le_of_eq hce
  have hn : slots ≤ 0 := Nat.le_of_eq hsl
  clear hce hsl
  refine lv_aload_n hx hb dX1_init_2_0 rfl (lv_at hl 0 rfl) ?_
  refine W.objInit hx hb hown (hts _ q137) (hts _ q124) (hts _ q125) rfl (by rw [hC.ml]; exact hl.1) rfl dX1_init_2_1 (Nat.le_of_ble_eq_true rfl) (Nat.le_of_ble_eq_true rfl) ?_
  refine W.eq (g2 := F0 m 4 ls []) rfl ?_
  refine lv_aload_n hx hb dX1_init_2_4 rfl (lv_at hl 0 rfl) ?_
  refine lv_bipush (v := 7) hx hb dX1_init_2_5 (by decide) ?_
  obtain ⟨fs0, hM0, hb0, hk0, hw⟩ := hw
  refine z_put hC hZ hM0 hb0 zc1 4 (by decide) q161 (fun _ h9 => h9) (by decide) rfl rfl hk0 dX1_init_2_7 (fun H locs hZ => ?_)
  generalize zu M _ _ = M at hw hZ
  refine lv_aload_n hx hb dX1_init_2_10 rfl (lv_at hl 0 rfl) ?_
  refine lv_iload_n hx hb dX1_init_2_11 rfl (lv_at hl 1 rfl) ?_
  obtain ⟨fs0, hM0, hb0, hk0, hw⟩ := hw
  refine z_putF hC hZ hM0 hb0 zc1 0 (by decide) q149 (fun _ h9 => h9) (by decide) hG.2.2.2.1 rfl rfl rfl hk0 dX1_init_2_12 (fun H locs hZ => ?_)
  generalize zu M _ _ = M at hw hZ
  refine lv_aload_n hx hb dX1_init_2_15 rfl (lv_at hl 0 rfl) ?_
  refine lv_iload_n hx hb dX1_init_2_16 rfl (lv_at hl 2 rfl) ?_
  obtain ⟨fs0, hM0, hb0, hk0, hw⟩ := hw
  refine z_putF hC hZ hM0 hb0 zc1 1 (by decide) q153 (fun _ h9 => h9) (by decide) hG.2.2.2.1 rfl rfl rfl hk0 dX1_init_2_17 (fun H locs hZ => ?_)
  generalize zu M _ _ = M at hw hZ
  refine lv_iload_n hx hb dX1_init_2_20 rfl (lv_at hl 1 rfl) ?_
  refine lv_i2l hx hb dX1_init_2_21 rfl ?_
  refine z_callL hZ (vx_runS (As := [.long (a0.toInt64)]) (rest := []) hC.fix (w_J0_abs hlt hw) (va_cwS 1 hts (lw_S q138 q139 q69 q140) rfl rfl rfl dd_J0_abs ⟨Nat.le_of_ble_eq_true rfl, Nat.le_of_ble_eq_true rfl⟩) (z_preS hC hZ) rfl rfl hl.1 rfl (lv_room (Nat.zero_le _)) dX1_init_2_22 ⟨hk, hn⟩) (fun r38 M H locs hw1 hZ => ?_) (fun q M H locs ci fs E T9 N9 hw hZ hc1 hM1 hb1 => False.elim hw)
  replace hw := hw1
  clear hw1
  refine W.cs (cells' := cells) (slots' := slots) rfl rfl ?_
  refine lv_lstore_n (i := 3) (lv' := [(3, .long r38), (0, .ref o), (1, .int a0), (2, .int a1)]) hx hb dX1_init_2_25 rfl hl (by decide) rfl (fun ls hl1 => ?_)
  replace hl := hl1
  clear hl1
  refine lv_aload_n hx hb dX1_init_2_26 rfl (lv_at hl 1 rfl) ?_
  refine lv_lload_n hx hb dX1_init_2_27 rfl (lv_at hl 0 rfl) ?_
  refine lv_iload_n hx hb dX1_init_2_28 rfl (lv_at hl 3 rfl) ?_
  refine z_callL hZ (vx_runSN (As := [.int a1]) (rest := [.long r38, .ref o]) hC.fix (w_X0_tens hlt hw) ⟨va_cnB 1 hts (lw_meth q143) rfl rfl rfl (hC.nw q141 rfl) (hts _ q67) dd_X0_tens ⟨Nat.le_of_ble_eq_true rfl, Nat.le_of_ble_eq_true rfl⟩, hts _ q142, trivial⟩ (z_preS hC hZ) rfl rfl hl.1 rfl (lv_room (Nat.le_trans (zrm2 rfl (zrm1 rfl zrm0)) (Nat.le_of_ble_eq_true rfl))) dX1_init_2_29 ⟨hk, hn⟩) (fun r41 M H locs hw1 hZ => ?_) (fun q M H locs ci fs E T9 N9 hw hZ hc1 hM1 hb1 => False.elim hw)
  replace hw := hw1
  clear hw1
  refine W.cs (cells' := cells) (slots' := slots) rfl rfl ?_
  obtain ⟨hz0, hw⟩ := hw
  refine lv_ldiv hx hb dX1_init_2_32 hz0 ?_
  obtain ⟨fs0, hM0, hb0, hk0, hw⟩ := hw
  refine z_putF hC hZ hM0 hb0 zc1 2 (by decide) q157 (fun _ h9 => h9) (by decide) hG.2.2.2.1 rfl rfl rfl hk0 dX1_init_2_33 (fun H locs hZ => ?_)
  generalize zu M _ _ = M at hw hZ
  refine lv_aload_n hx hb dX1_init_2_36 rfl (lv_at hl 1 rfl) ?_
  refine lv_lload_n hx hb dX1_init_2_37 rfl (lv_at hl 0 rfl) ?_
  refine lv_iload_n hx hb dX1_init_2_38 rfl (lv_at hl 3 rfl) ?_
  refine z_callL hZ (vx_runSN (As := [.int a1]) (rest := [.long r38, .ref o]) hC.fix (w_X0_tens hlt hw) ⟨va_cnB 1 hts (lw_meth q143) rfl rfl rfl (hC.nw q141 rfl) (hts _ q67) dd_X0_tens ⟨Nat.le_of_ble_eq_true rfl, Nat.le_of_ble_eq_true rfl⟩, hts _ q142, trivial⟩ (z_preS hC hZ) rfl rfl hl.1 rfl (lv_room (Nat.le_trans (zrm2 rfl (zrm1 rfl zrm0)) (Nat.le_of_ble_eq_true rfl))) dX1_init_2_39 ⟨hk, hn⟩) (fun r44 M H locs hw1 hZ => ?_) (fun q M H locs ci fs E T9 N9 hw hZ hc1 hM1 hb1 => False.elim hw)
  replace hw := hw1
  clear hw1
  refine W.cs (cells' := cells) (slots' := slots) rfl rfl ?_
  obtain ⟨hz0, hw⟩ := hw
  refine lv_lrem hx hb dX1_init_2_42 hz0 ?_
  obtain ⟨fs0, hM0, hb0, hk0, hw⟩ := hw
  refine z_putF hC hZ hM0 hb0 zc1 3 (by decide) q159 (fun _ h9 => h9) (by decide) hG.2.2.2.1 rfl rfl rfl hk0 dX1_init_2_43 (fun H locs hZ => ?_)
  generalize zu M _ _ = M at hw hZ
  refine lv_aload_n hx hb dX1_init_2_46 rfl (lv_at hl 1 rfl) ?_
  refine lv_aload_n hx hb dX1_init_2_47 rfl (lv_at hl 1 rfl) ?_
  obtain ⟨fs0, g47, hM0, hx0, hw⟩ := hw
  refine z_get hC hZ hM0 zc1 3 (by decide) q159 (fun _ h9 => h9) hx0 dX1_init_2_48 ?_
  obtain ⟨fs0, hM0, hb0, hk0, hw⟩ := hw
  refine z_put hC hZ hM0 hb0 zc1 5 (by decide) q162 (fun _ h9 => h9) (by decide) rfl rfl hk0 dX1_init_2_51 (fun H locs hZ => ?_)
  generalize zu M _ _ = M at hw hZ
  refine lv_aload_n hx hb dX1_init_2_54 rfl (lv_at hl 1 rfl) ?_
  refine lv_aload_n hx hb dX1_init_2_55 rfl (lv_at hl 1 rfl) ?_
  obtain ⟨fs0, g48, hM0, hx0, hw⟩ := hw
  refine z_get hC hZ hM0 zc1 4 (by decide) q161 (fun _ h9 => h9) hx0 dX1_init_2_56 ?_
  refine lv_iload_n hx hb dX1_init_2_59 rfl (lv_at hl 3 rfl) ?_
  refine z_callI hZ (vx_runS (As := [.int g48, .int a1]) (rest := [.ref o]) hC.fix (w_J0_min hlt hw) (va_cwS 2 hts (lw_S q145 q146 q69 q147) rfl rfl rfl dd_J0_min ⟨Nat.le_of_ble_eq_true rfl, Nat.le_of_ble_eq_true rfl⟩) (z_preS hC hZ) rfl rfl hl.1 rfl (lv_room (Nat.le_trans (zrm1 rfl zrm0) (Nat.le_of_ble_eq_true rfl))) dX1_init_2_60 ⟨hk, hn⟩) (fun r49 M H locs hw1 hZ => ?_) (fun q M H locs ci fs E T9 N9 hw hZ hc1 hM1 hb1 => False.elim hw)
  replace hw := hw1
  clear hw1
  refine W.cs (cells' := cells) (slots' := slots) rfl rfl ?_
  obtain ⟨fs0, hM0, hb0, hk0, hw⟩ := hw
  refine z_put hC hZ hM0 hb0 zc1 4 (by decide) q161 (fun _ h9 => h9) (by decide) rfl rfl hk0 dX1_init_2_63 (fun H locs hZ => ?_)
  generalize zu M _ _ = M at hw hZ
  obtain ⟨f1, hw⟩ := hw
  exact wk_X1_init_2_L66 hG f1 _ hk hn hZ (lv_sub hl [1] rfl) hw
abbrev rm_X25_init : Room := { frames := 1, cells := 0, slots := 0, locals := 64 }
def wp_X25_init (D : zD) (post : Unit → zM → Prop) (o : Nat) (a0 : Option Nat) (M : zM) : Prop :=
    (zp D M o 22 0 (va_rf a0) fun M => post () M)
set_option maxHeartbeats 4000000 in
set_option maxRecDepth 100000 in
theorem w_X25_init {l : Launch} {D : zD} {post : Unit → zM → Prop} (hlt : l.stackTraces = false) {o : Nat} {a0 : Option Nat} {M : zM} (hw : wp_X25_init D post o a0 M) : zMet l D yX25_init (ws_ yX25_init cX25_init 2 (none)) rm_X25_init 0 0 [.ref o, va_rf a0] M zU post (fun _ _ => False) := by
  unfold wp_X25_init at hw
  have hlv : lv_args 0 [.ref o, va_rf a0] = [(0, .ref o), (1, va_rf a0)] := (zargs1 rfl (zargs1 (zcat _) rfl))
  refine z_ofW hlt (by decide) (Nat.le_trans (zsl1 rfl (zsl1 (zcat _) (Nat.le_refl 0 : (lg_sl []).length ≤ 0))) (Nat.le_of_ble_eq_true rfl)) hlv ?_
  intro p e s m args below meth c ls hG hZ hl
  have hC := hG.1
  have hx := hC.x
  have hb := hC.b
  have hown := hC.o
  have hts := hC.ts
  have hlt := hG.2.2.2.2.2
  obtain ⟨cells, hce⟩ : ∃ z : Nat, z = 0 := ⟨0, rfl⟩
  obtain ⟨slots, hsl⟩ : ∃ z : Nat, z = 0 := ⟨0, rfl⟩
  refine W.cs (cells' := cells) (slots' := slots) hce.symm hsl.symm ?_
  have hk : cells ≤ 0 := Nat.le_of_eq hce
  have hn : slots ≤ 0 := Nat.le_of_eq hsl
  clear hce hsl
  refine lv_aload_n hx hb dX25_init_0 rfl (lv_at hl 0 rfl) ?_
  refine W.objInit hx hb hown (hts _ q1179) (hts _ q124) (hts _ q125) rfl (by rw [hC.ml]; exact hl.1) rfl dX25_init_1 (Nat.le_of_ble_eq_true rfl) (Nat.le_of_ble_eq_true rfl) ?_
  refine W.eq (g2 := F0 m 4 ls []) rfl ?_
  refine lv_aload_n hx hb dX25_init_4 rfl (lv_at hl 0 rfl) ?_
  refine z_aload_n hC dX25_init_5 rfl (lv_at hl 1 rfl) ?_
  obtain ⟨fs0, hM0, hb0, hk0, hw⟩ := hw
  refine z_putF hC hZ hM0 hb0 zc22 0 (by decide) q1180 (fun _ h9 => h9) (by decide) hG.2.2.2.1 rfl zrf_nar zrf_fit hk0 dX25_init_6 (fun H locs hZ => ?_)
  generalize zu M _ _ = M at hw hZ
  exact z_vret hG hZ hk hn hw dX25_init_9
abbrev rm_X0_add (K N : Nat) : Room := { frames := 14, cells := K, slots := N, locals := 252 }
def wp_X0_add_L39 (D : zD) (post : Int64 → zM → Prop) (xp : Nat → zM → Prop) (o : Nat) (k : Nat) (n : Nat) (M : zM) : Prop :=
    post (-9223372036854775808 : Int64) M
set_option maxHeartbeats 4000000 in
set_option maxRecDepth 100000 in
theorem wk_X0_add_L39 {p : Program} {l : Launch} {e : Env} {s : State} {m : MethodId} {args : Array Value} {below : List Frame} {meth : Method} {c : Code} {D : zD} {post : Int64 → zM → Prop} {xp : Nat → zM → Prop} {K N : Nat} {o : Nat} (hG : zGx p l s m args meth c cX0_add 6 "PluralBranches" D (some .long) "add" (tableOf [(78, 124, 125, 294)])) : ∀ {H : Heap} {locs : List Loc} {cells slots : Nat} {ls : Array Slot} (k : Nat) (n : Nat) (M : zM), cells + k ≤ K → slots + n ≤ N → zS D M H locs → lv_has ls 6 [] → wp_X0_add_L39 D post xp o k n M → W p l e (rm_X0_add K N) s m args below meth c H locs cells slots (vx_MQ below (zQ D zL post) (zX D xp) args s K N (zA D)) (F0 m 39 ls []) := by
  have hC := hG.1
  have hx := hC.x
  have hb := hC.b
  have hown := hC.o
  have hts := hC.ts
  have hlt := hG.2.2.2.2.2
  intro H locs cells slots ls k n M hk hn hZ hl hw
  refine lv_ldc2 hx hb hown (hts _ q442) dX0_add_39 ?_
  exact z_lret hG hZ (by omega) (by omega) hw dX0_add_42
def wp_X0_add_L125 (D : zD) (post : Int64 → zM → Prop) (xp : Nat → zM → Prop) (o : Nat) (k : Nat) (n : Nat) (y0 : Option Nat) (M : zM) : Prop :=
    post (-9223372036854775808 : Int64) M
set_option maxHeartbeats 4000000 in
set_option maxRecDepth 100000 in
theorem wk_X0_add_L125 {p : Program} {l : Launch} {e : Env} {s : State} {m : MethodId} {args : Array Value} {below : List Frame} {meth : Method} {c : Code} {D : zD} {post : Int64 → zM → Prop} {xp : Nat → zM → Prop} {K N : Nat} {o : Nat} (hG : zGx p l s m args meth c cX0_add 6 "PluralBranches" D (some .long) "add" (tableOf [(78, 124, 125, 294)])) : ∀ {H : Heap} {locs : List Loc} {cells slots : Nat} {ls : Array Slot} (k : Nat) (n : Nat) (y0 : Option Nat) (M : zM), cells + k ≤ K → slots + n ≤ N → zS D M H locs → lv_has ls 6 [] → wp_X0_add_L125 D post xp o k n y0 M → W p l e (rm_X0_add K N) s m args below meth c H locs cells slots (vx_MQ below (zQ D zL post) (zX D xp) args s K N (zA D)) (F0 m 125 ls [va_rf y0]) := by
  have hC := hG.1
  have hx := hC.x
  have hb := hC.b
  have hown := hC.o
  have hts := hC.ts
  have hlt := hG.2.2.2.2.2
  intro H locs cells slots ls k n y0 M hk hn hZ hl hw
  refine z_astore (i := 5) (lv' := [(5, va_rf y0)]) hC dX0_add_125 hl (by decide) rfl (fun ls hl1 => ?_)
  replace hl := hl1
  clear hl1
  refine lv_ldc2 hx hb hown (hts _ q442) dX0_add_127 ?_
  exact z_lret hG hZ (by omega) (by omega) hw dX0_add_130
def wp_X0_add_L70 (D : zD) (post : Int64 → zM → Prop) (xp : Nat → zM → Prop) (o : Nat) (k : Nat) (n : Nat) (x1 : Int32) (x2 : Int32) (x3 : Int32) (y0 : Int32) (y1 : Option Nat) (M : zM) : Prop :=
    ((zd y1 fun b1 => zgI M b1 1 1 fun g2 => (wp_J0_max D (fun r3 M => ((zis M o [0] ∧ (∃ k7 n8, k7 ≤ k ∧ n8 ≤ n ∧ wp_X0_at D (fun r6 M => ((zis M o [0] ∧ (∃ k10 n11, k10 ≤ (k - k7) ∧ n11 ≤ (n - n8) ∧ wp_X0_at D (fun r9 M => ((∃ k13 n14, k13 ≤ ((k - k7) - k10) ∧ n14 ≤ ((n - n8) - n11) ∧ wp_J0_addExact D (fun r12 M => (zgR M o 0 6 fun g15 => (znew D M 22 1 [.null] (((k - k7) - k10) - k13) (((n - n8) - n11) - n14) fun b16 M => (znew D M 1 6 [.int 0, .int 0, .long 0, .long 0, .int 0, .long 0] ((((k - k7) - k10) - k13) - 1) ((((n - n8) - n11) - n14) - 1) fun b17 M => (wp_X1_init_2 D (fun _ M => (wp_X25_init D (fun _ M => ((zd g15 fun b24 => zsR D M b24 9 x3 (some b16) fun M => post (r12.toInt64) M))) b16 (some b17) M)) b17 r12 r3 M))))) (fun q M => (∃ fs, M q = some (.inr (28, fs))) ∧ wp_X0_add_L125 D post xp o (((k - k7) - k10) - k13) (((n - n8) - n11) - n14) (some q) M) k13 n14 r6 r9 M))) (fun q M => (∃ fs, M q = some (.inr (28, fs))) ∧ wp_X0_add_L125 D post xp o ((k - k7) - k10) ((n - n8) - n11) (some q) M) k10 n11 o x2 r3 M)))) (fun q M => (∃ fs, M q = some (.inr (28, fs))) ∧ wp_X0_add_L125 D post xp o (k - k7) (n - n8) (some q) M) k7 n8 o x1 r3 M)))) y0 g2 M)))
set_option maxHeartbeats 4000000 in
set_option maxRecDepth 100000 in
theorem wk_X0_add_L70 {p : Program} {l : Launch} {e : Env} {s : State} {m : MethodId} {args : Array Value} {below : List Frame} {meth : Method} {c : Code} {D : zD} {post : Int64 → zM → Prop} {xp : Nat → zM → Prop} {K N : Nat} {o : Nat} (hG : zGx p l s m args meth c cX0_add 6 "PluralBranches" D (some .long) "add" (tableOf [(78, 124, 125, 294)])) : ∀ {H : Heap} {locs : List Loc} {cells slots : Nat} {ls : Array Slot} (k : Nat) (n : Nat) (x1 : Int32) (x2 : Int32) (x3 : Int32) (y0 : Int32) (y1 : Option Nat) (M : zM), cells + k ≤ K → slots + n ≤ N → zS D M H locs → lv_has ls 6 [(0, .ref o), (1, .int x1), (2, .int x2), (3, .int x3)] → wp_X0_add_L70 D post xp o k n x1 x2 x3 y0 y1 M → W p l e (rm_X0_add K N) s m args below meth c H locs cells slots (vx_MQ below (zQ D zL post) (zX D xp) args s K N (zA D)) (F0 m 70 ls [va_rf y1, .int y0]) := by
  have hC := hG.1
  have hx := hC.x
  have hb := hC.b
  have hown := hC.o
  have hts := hC.ts
  have hlt := hG.2.2.2.2.2
  intro H locs cells slots ls k n x1 x2 x3 y0 y1 M hk hn hZ hl hw
  obtain ⟨b25, hr0, hw⟩ := hw
  subst hr0
  obtain ⟨fs0, g26, hM0, hx0, hw⟩ := hw
  refine z_getN hC hZ hM0 zc1 1 (by decide) q156 (fun _ h9 => h9) hx0 dX0_add_70 ?_
  refine z_callI hZ (vx_runS (As := [.int y0, .int g26]) (rest := []) hC.fix (w_J0_max hlt hw) (va_cwS 2 hts (lw_S q1332 q232 q69 q233) rfl rfl rfl dd_J0_max ⟨Nat.le_of_ble_eq_true rfl, Nat.le_of_ble_eq_true rfl⟩) (z_preS hC hZ) rfl rfl hl.1 rfl (lv_room (Nat.zero_le _)) dX0_add_73 ⟨(show cells + 0 ≤ K by omega), (show slots + 0 ≤ N by omega)⟩) (fun r27 M H locs hw1 hZ => ?_) (fun q M H locs ci fs E T9 N9 hw hZ hc1 hM1 hb1 => False.elim hw)
  replace hw := hw1
  clear hw1
  refine W.cs (cells' := cells) (slots' := slots) rfl rfl ?_
  refine lv_istore (i := 4) (lv' := [(4, .int r27), (0, .ref o), (1, .int x1), (2, .int x2), (3, .int x3)]) hx hb dX0_add_76 hl (by decide) rfl (fun ls hl1 => ?_)
  replace hl := hl1
  clear hl1
  refine lv_aload_n hx hb dX0_add_78 rfl (lv_at hl 1 rfl) ?_
  refine lv_iload_n hx hb dX0_add_79 rfl (lv_at hl 2 rfl) ?_
  refine lv_iload hx hb dX0_add_80 (lv_at hl 0 rfl) ?_
  obtain ⟨⟨ci0, fs0, hci0, hM0⟩, hw⟩ := hw
  obtain ⟨k31, n32, hk1, hn1, hw⟩ := hw
  obtain rfl : ci0 = 0 := List.mem_singleton.mp hci0
  refine z_callI hZ (vx_runV (As := [.int x1, .int r27]) (rest := []) hC.fix (w_X0_at hlt hw) (cwV 2 hts (lw_V q1333 q1335 qs24 q67 q1336) rfl rfl rfl ⟨rfl, dd_X0_at⟩ ⟨Nat.le_of_ble_eq_true rfl, Nat.le_of_ble_eq_true rfl⟩) (z_preV hC hZ hM0 zc0) rfl rfl hl.1 rfl (lv_room (Nat.zero_le _)) dX0_add_82 ⟨(show cells + k31 ≤ K by omega), (show slots + n32 ≤ N by omega)⟩) (fun r30 M H locs hw1 hZ => ?_) (fun q M H locs ci fs E T9 N9 hw1 hZ hc1 hM1 hb1 => ?_)
  · replace hw := hw1
    clear hw1
    have hk : cells + k31 + (k - k31) ≤ K := by omega
    have hn : slots + n32 + (n - n32) ≤ N := by omega
    generalize cells + k31 = cells at hk ⊢
    generalize slots + n32 = slots at hn ⊢
    clear hk1 hn1
    refine lv_aload_n hx hb dX0_add_85 rfl (lv_at hl 1 rfl) ?_
    refine lv_iload_n hx hb dX0_add_86 rfl (lv_at hl 3 rfl) ?_
    refine lv_iload hx hb dX0_add_87 (lv_at hl 0 rfl) ?_
    obtain ⟨⟨ci0, fs0, hci0, hM0⟩, hw⟩ := hw
    obtain ⟨k34, n35, hk1, hn1, hw⟩ := hw
    obtain rfl : ci0 = 0 := List.mem_singleton.mp hci0
    refine z_callI hZ (vx_runV (As := [.int x2, .int r27]) (rest := [.int r30]) hC.fix (w_X0_at hlt hw) (cwV 2 hts (lw_V q1333 q1335 qs24 q67 q1336) rfl rfl rfl ⟨rfl, dd_X0_at⟩ ⟨Nat.le_of_ble_eq_true rfl, Nat.le_of_ble_eq_true rfl⟩) (z_preV hC hZ hM0 zc0) rfl rfl hl.1 rfl (lv_room (Nat.le_trans (zrm1 rfl zrm0) (Nat.le_of_ble_eq_true rfl))) dX0_add_89 ⟨(show cells + k34 ≤ K by omega), (show slots + n35 ≤ N by omega)⟩) (fun r33 M H locs hw1 hZ => ?_) (fun q M H locs ci fs E T9 N9 hw1 hZ hc1 hM1 hb1 => ?_)
    · replace hw := hw1
      clear hw1
      have hk : cells + k34 + ((k - k31) - k34) ≤ K := by omega
      have hn : slots + n35 + ((n - n32) - n35) ≤ N := by omega
      generalize cells + k34 = cells at hk ⊢
      generalize slots + n35 = slots at hn ⊢
      clear hk1 hn1
      obtain ⟨k37, n38, hk1, hn1, hw⟩ := hw
      refine z_callI hZ (vx_runS (As := [.int r30, .int r33]) (rest := []) hC.fix (w_J0_addExact hlt hw) (va_cwS 2 hts (lw_S q1351 q1352 q69 q1353) rfl rfl rfl dd_J0_addExact ⟨Nat.le_of_ble_eq_true rfl, Nat.le_of_ble_eq_true rfl⟩) (z_preS hC hZ) rfl rfl hl.1 rfl (lv_room (Nat.zero_le _)) dX0_add_92 ⟨(show cells + k37 ≤ K by omega), (show slots + n38 ≤ N by omega)⟩) (fun r36 M H locs hw1 hZ => ?_) (fun q M H locs ci fs E T9 N9 hw1 hZ hc1 hM1 hb1 => ?_)
      · replace hw := hw1
        clear hw1
        have hk : cells + k37 + (((k - k31) - k34) - k37) ≤ K := by omega
        have hn : slots + n38 + (((n - n32) - n35) - n38) ≤ N := by omega
        generalize cells + k37 = cells at hk ⊢
        generalize slots + n38 = slots at hn ⊢
        clear hk1 hn1
        refine lv_istore (i := 5) (lv' := [(5, .int r36), (4, .int r27), (0, .ref o), (1, .int x1), (2, .int x2), (3, .int x3)]) hx hb dX0_add_95 hl (by decide) rfl (fun ls hl1 => ?_)
        replace hl := hl1
        clear hl1
        refine lv_aload_n hx hb dX0_add_97 rfl (lv_at hl 2 rfl) ?_
        obtain ⟨fs0, g39, hM0, hx0, hw⟩ := hw
        refine z_get hC hZ hM0 zc0 6 (by decide) q407 (fun _ h9 => h9) hx0 dX0_add_98 ?_
        refine lv_iload_n hx hb dX0_add_101 rfl (lv_at hl 5 rfl) ?_
        obtain ⟨hk1, hn1, hw⟩ := hw
        refine z_new (fs := [.null]) hC hZ zc22 q1174 q1175 q109 (zdefs (N := 1) (ty := tyX25) (fs := [.null]) (by decide)) (show cells + 1 ≤ K by omega) (show slots + 1 ≤ N by omega) dX0_add_102 (fun b40 H hq0 hq1 hZ => ?_)
        replace hw := hw b40 hq0 hq1
        generalize zu M _ _ = M at hw hZ
        have hk : cells + 1 + ((((k - k31) - k34) - k37) - 1) ≤ K := by omega
        have hn : slots + 1 + ((((n - n32) - n35) - n38) - 1) ≤ N := by omega
        generalize cells + 1 = cells at hk ⊢
        generalize slots + 1 = slots at hn ⊢
        clear hk1 hn1
        refine lv_dup hx hb dX0_add_105 rfl ?_
        obtain ⟨hk1, hn1, hw⟩ := hw
        refine z_new (fs := [.int 0, .int 0, .long 0, .long 0, .int 0, .long 0]) hC hZ zc1 q128 q130 q68 (zdefs (N := 6) (ty := tyX1) (fs := [.int 0, .int 0, .long 0, .long 0, .int 0, .long 0]) (by decide)) (show cells + 1 ≤ K by omega) (show slots + 6 ≤ N by omega) dX0_add_106 (fun b41 H hq0 hq1 hZ => ?_)
        replace hw := hw b41 hq0 hq1
        generalize zu M _ _ = M at hw hZ
        have hk : cells + 1 + (((((k - k31) - k34) - k37) - 1) - 1) ≤ K := by omega
        have hn : slots + 6 + (((((n - n32) - n35) - n38) - 1) - 6) ≤ N := by omega
        generalize cells + 1 = cells at hk ⊢
        generalize slots + 6 = slots at hn ⊢
        clear hk1 hn1
        refine lv_dup hx hb dX0_add_109 rfl ?_
        refine lv_iload hx hb dX0_add_110 (lv_at hl 0 rfl) ?_
        refine lv_iload hx hb dX0_add_112 (lv_at hl 1 rfl) ?_
        refine z_callU hZ (vx_runI (As := [.int r36, .int r27]) (rest := [.ref b41, .ref b40, .ref b40, .int x3, va_rf g39]) hC.fix (w_X1_init_2 hlt hw) (cwI 2 hts (lw_meth q136) rfl rfl rfl (hts _ q68) (hts _ q176) (hts _ q135) rfl dd_X1_init_2 ⟨Nat.le_of_ble_eq_true rfl, Nat.le_of_ble_eq_true rfl⟩) (z_preS hC hZ) rfl rfl hl.1 rfl (lv_room (Nat.le_trans (zrm1 rfl (zrm1 rfl (zrm1 rfl (zrm1 rfl (zrm1 (zcat _) zrm0))))) (Nat.le_of_ble_eq_true rfl))) dX0_add_114 ⟨(show cells + 0 ≤ K by omega), (show slots + 0 ≤ N by omega)⟩) (fun r42 M H locs hw1 hZ => ?_) (fun q M H locs ci fs E T9 N9 hw hZ hc1 hM1 hb1 => False.elim hw)
        replace hw := hw1
        clear hw1
        refine W.cs (cells' := cells) (slots' := slots) rfl rfl ?_
        refine z_callU hZ (vx_runI (As := [.ref b41]) (rest := [.ref b40, .int x3, va_rf g39]) hC.fix (w_X25_init hlt hw) (cwI 1 hts (lw_meth q1178) rfl rfl rfl (hts _ q109) (hts _ q1176) (hts _ q1177) rfl dd_X25_init ⟨Nat.le_of_ble_eq_true rfl, Nat.le_of_ble_eq_true rfl⟩) (z_preS hC hZ) rfl rfl hl.1 rfl (lv_room (Nat.le_trans (zrm1 rfl (zrm1 rfl (zrm1 (zcat _) zrm0))) (Nat.le_of_ble_eq_true rfl))) dX0_add_117 ⟨(show cells + 0 ≤ K by omega), (show slots + 0 ≤ N by omega)⟩) (fun r45 M H locs hw1 hZ => ?_) (fun q M H locs ci fs E T9 N9 hw hZ hc1 hM1 hb1 => False.elim hw)
        replace hw := hw1
        clear hw1
        refine W.cs (cells' := cells) (slots' := slots) rfl rfl ?_
        obtain ⟨b48, hr0, hw⟩ := hw
        subst hr0
        obtain ⟨n0, f0, hM0, hb0, hi0, hv0, hw⟩ := hw
        refine z_aastO (r := (some b40)) hC hZ hM0 hb0 rfl hv0 hi0 dX0_add_120 (fun H locs hZ => ?_)
        generalize zu M _ _ = M at hw hZ
        refine lv_iload hx hb dX0_add_121 (lv_at hl 0 rfl) ?_
        refine lv_i2l hx hb dX0_add_123 rfl ?_
        exact z_lret hG hZ (by omega) (by omega) hw dX0_add_124
      · replace hw := hw1
        clear hw1
        have hk : cells + k37 + (((k - k31) - k34) - k37) ≤ K := by omega
        have hn : slots + n38 + (((n - n32) - n35) - n38) ≤ N := by omega
        generalize cells + k37 = cells at hk ⊢
        generalize slots + n38 = slots at hn ⊢
        clear hk1 hn1
        obtain ⟨⟨fs9, hM9⟩, hw⟩ := hw
        obtain ⟨rfl, rfl⟩ : ci = 28 ∧ fs = fs9 := by rw [hM9] at hM1; cases hM1; exact ⟨rfl, rfl⟩
        refine z_catch hG hZ hM1 hb1 zc28.1 (tableOf []) ⟨78, 124, 125, 294⟩ (tableOf []) rfl (by decide) (by decide) (by decide) q1289 q1309 ?_
        exact wk_X0_add_L125 hG _ _ _ _ hk hn hZ (lv_sub hl [] rfl) hw
    · replace hw := hw1
      clear hw1
      have hk : cells + k34 + ((k - k31) - k34) ≤ K := by omega
      have hn : slots + n35 + ((n - n32) - n35) ≤ N := by omega
      generalize cells + k34 = cells at hk ⊢
      generalize slots + n35 = slots at hn ⊢
      clear hk1 hn1
      obtain ⟨⟨fs9, hM9⟩, hw⟩ := hw
      obtain ⟨rfl, rfl⟩ : ci = 28 ∧ fs = fs9 := by rw [hM9] at hM1; cases hM1; exact ⟨rfl, rfl⟩
      refine z_catch hG hZ hM1 hb1 zc28.1 (tableOf []) ⟨78, 124, 125, 294⟩ (tableOf []) rfl (by decide) (by decide) (by decide) q1289 q1309 ?_
      exact wk_X0_add_L125 hG _ _ _ _ hk hn hZ (lv_sub hl [] rfl) hw
  · replace hw := hw1
    clear hw1
    have hk : cells + k31 + (k - k31) ≤ K := by omega
    have hn : slots + n32 + (n - n32) ≤ N := by omega
    generalize cells + k31 = cells at hk ⊢
    generalize slots + n32 = slots at hn ⊢
    clear hk1 hn1
    obtain ⟨⟨fs9, hM9⟩, hw⟩ := hw
    obtain ⟨rfl, rfl⟩ : ci = 28 ∧ fs = fs9 := by rw [hM9] at hM1; cases hM1; exact ⟨rfl, rfl⟩
    refine z_catch hG hZ hM1 hb1 zc28.1 (tableOf []) ⟨78, 124, 125, 294⟩ (tableOf []) rfl (by decide) (by decide) (by decide) q1289 q1309 ?_
    exact wk_X0_add_L125 hG _ _ _ _ hk hn hZ (lv_sub hl [] rfl) hw
def wp_X0_add_L55 (D : zD) (post : Int64 → zM → Prop) (xp : Nat → zM → Prop) (o : Nat) (k : Nat) (n : Nat) (x1 : Int32) (x2 : Int32) (x3 : Int32) (y0 : Option Nat) (M : zM) : Prop :=
    ((zd y0 fun b49 => zgI M b49 1 1 fun g50 => (zgR M o 0 6 fun g51 => ((zd g51 fun b52 => zaR M b52 9 x2 fun v53 => ((zd v53 fun b54 => ((zis M b54 [22] ∧ wp_X25_decimal D (fun r55 M => wp_X0_add_L70 D post xp o k n x1 x2 x3 g50 r55 M) b54 x2 M) ∨ (zis M b54 [23, 24] ∧ (∃ k59 n60, k59 ≤ k ∧ n60 ≤ n ∧ wp_X29_decimal D (fun r58 M => wp_X0_add_L70 D post xp o (k - k59) (n - n60) x1 x2 x3 g50 r58 M) xp k59 n60 b54 x2 M))))))))))
set_option maxHeartbeats 4000000 in
set_option maxRecDepth 100000 in
theorem wk_X0_add_L55 {p : Program} {l : Launch} {e : Env} {s : State} {m : MethodId} {args : Array Value} {below : List Frame} {meth : Method} {c : Code} {D : zD} {post : Int64 → zM → Prop} {xp : Nat → zM → Prop} {K N : Nat} {o : Nat} (hG : zGx p l s m args meth c cX0_add 6 "PluralBranches" D (some .long) "add" (tableOf [(78, 124, 125, 294)])) : ∀ {H : Heap} {locs : List Loc} {cells slots : Nat} {ls : Array Slot} (k : Nat) (n : Nat) (x1 : Int32) (x2 : Int32) (x3 : Int32) (y0 : Option Nat) (M : zM), cells + k ≤ K → slots + n ≤ N → zS D M H locs → lv_has ls 6 [(0, .ref o), (1, .int x1), (2, .int x2), (3, .int x3)] → wp_X0_add_L55 D post xp o k n x1 x2 x3 y0 M → W p l e (rm_X0_add K N) s m args below meth c H locs cells slots (vx_MQ below (zQ D zL post) (zX D xp) args s K N (zA D)) (F0 m 55 ls [va_rf y0]) := by
  have hC := hG.1
  have hx := hC.x
  have hb := hC.b
  have hown := hC.o
  have hts := hC.ts
  have hlt := hG.2.2.2.2.2
  intro H locs cells slots ls k n x1 x2 x3 y0 M hk hn hZ hl hw
  obtain ⟨b61, hr0, hw⟩ := hw
  subst hr0
  obtain ⟨fs0, g62, hM0, hx0, hw⟩ := hw
  refine z_getN hC hZ hM0 zc1 1 (by decide) q156 (fun _ h9 => h9) hx0 dX0_add_55 ?_
  refine lv_aload_n hx hb dX0_add_58 rfl (lv_at hl 0 rfl) ?_
  obtain ⟨fs0, g63, hM0, hx0, hw⟩ := hw
  refine z_get hC hZ hM0 zc0 6 (by decide) q407 (fun _ h9 => h9) hx0 dX0_add_59 ?_
  refine lv_iload_n hx hb dX0_add_62 rfl (lv_at hl 2 rfl) ?_
  obtain ⟨b64, hr0, hw⟩ := hw
  subst hr0
  obtain ⟨n0, f0, v65, hM0, hi0, hr0, hw⟩ := hw
  refine z_aald hC hZ hM0 (by decide) rfl hi0 hr0 dX0_add_63 ?_
  refine lv_iload_n hx hb dX0_add_64 rfl (lv_at hl 2 rfl) ?_
  obtain ⟨b66, hr0, hw⟩ := hw
  subst hr0
  rcases hw with hw | hw
  · obtain ⟨⟨ci0, fs0, hci0, hM0⟩, hw⟩ := hw
    obtain ⟨C0, T0, N0, ty0, hc0, hsel0, hf0⟩ : ∃ (C0 : String) (T0 : u_T) (N0 : Nat) (ty0 : Nat → FieldType), zCls ci0 C0 T0 N0 ty0 ∧ Cond.selects C0 ⟨"PluralBranches$Thing", "decimal", "(I)LPluralBranches$Decimal;"⟩ yX25_decimal ∈ lw_all ∧ (C0, ⟨"PluralBranches$Thing", "decimal", "(I)LPluralBranches$Decimal;"⟩, yX25_decimal) ∈ zFs := (zal ⟨_, _, _, _, zc22, q1327, List.mem_of_getElem? (i := 8) rfl⟩ (za0) : ∀ ci ∈ [22], ∃ (C0 : String) (T0 : u_T) (N0 : Nat) (ty0 : Nat → FieldType), zCls ci C0 T0 N0 ty0 ∧ Cond.selects C0 ⟨"PluralBranches$Thing", "decimal", "(I)LPluralBranches$Decimal;"⟩ yX25_decimal ∈ lw_all ∧ (C0, ⟨"PluralBranches$Thing", "decimal", "(I)LPluralBranches$Decimal;"⟩, yX25_decimal) ∈ zFs) ci0 hci0
    refine z_callR5 hZ (vx_runF (As := [.int x2]) (rest := [.int g62]) (hC.vK.1 _ _ hc0.1).2 hC.fix (w_X25_decimal hlt hw) (va_cwF 1 hts (lw_app (zal q1317 (zal hsel0 (zal q1329 (zal q109 za0)))) (lw_meth q1331)) rfl rfl rfl (hC.K.2.2.2.1 _ hf0) (by decide +kernel) ⟨Nat.le_of_ble_eq_true rfl, Nat.le_of_ble_eq_true rfl⟩) (z_preV hC hZ hM0 hc0) rfl rfl hl.1 rfl (lv_room (Nat.le_trans (zrm1 rfl zrm0) (Nat.le_of_ble_eq_true rfl))) dX0_add_65 ⟨(show cells + 0 ≤ K by omega), (show slots + 0 ≤ N by omega)⟩) (fun r67 M H locs hw1 hZ => ?_) (fun q M H locs ci fs E T9 N9 hw hZ hc1 hM1 hb1 => False.elim hw)
    replace hw := hw1
    clear hw1
    refine W.cs (cells' := cells) (slots' := slots) rfl rfl ?_
    exact wk_X0_add_L70 hG _ _ _ _ _ _ _ _ hk hn hZ (lv_sub hl [0, 1, 2, 3] rfl) hw
  · obtain ⟨⟨ci0, fs0, hci0, hM0⟩, hw⟩ := hw
    obtain ⟨k71, n72, hk1, hn1, hw⟩ := hw
    obtain ⟨C0, T0, N0, ty0, hc0, hin0⟩ : ∃ (C0 : String) (T0 : u_T) (N0 : Nat) (ty0 : Nat → FieldType), zCls ci0 C0 T0 N0 ty0 ∧ C0 ∈ ["PluralBranches$Gendered", "PluralBranches$Listed"] := (zal ⟨_, _, _, _, zc23, by decide⟩ (zal ⟨_, _, _, _, zc24, by decide⟩ (za0)) : ∀ ci ∈ [23, 24], ∃ (C0 : String) (T0 : u_T) (N0 : Nat) (ty0 : Nat → FieldType), zCls ci C0 T0 N0 ty0 ∧ C0 ∈ ["PluralBranches$Gendered", "PluralBranches$Listed"]) ci0 hci0
    refine z_callR5 hZ (z_runDef (As := [.int x2]) (rest := [.int g62]) hC hin0 (w_X29_decimal hlt hw) (hC.vK.1 _ _ hc0.1).2 q1317 ⟨Nat.le_of_ble_eq_true rfl, Nat.le_of_ble_eq_true rfl⟩ q1321 q2266 (lw_meth q1323) (z_preV hC hZ hM0 hc0) rfl rfl rfl rfl hl.1 rfl (lv_room (Nat.le_trans (zrm1 rfl zrm0) (Nat.le_of_ble_eq_true rfl))) dX0_add_65 ⟨(show cells + k71 ≤ K by omega), (show slots + n72 ≤ N by omega)⟩) (fun r70 M H locs hw1 hZ => ?_) (fun q M H locs ci fs E T9 N9 hw1 hZ hc1 hM1 hb1 => ?_)
    · replace hw := hw1
      clear hw1
      have hk : cells + k71 + (k - k71) ≤ K := by omega
      have hn : slots + n72 + (n - n72) ≤ N := by omega
      generalize cells + k71 = cells at hk ⊢
      generalize slots + n72 = slots at hn ⊢
      clear hk1 hn1
      exact wk_X0_add_L70 hG _ _ _ _ _ _ _ _ hk hn hZ (lv_sub hl [0, 1, 2, 3] rfl) hw
    · replace hw := hw1
      clear hw1
      exact z_out hG hZ hM1 hb1 hc1 (by decide) (by omega) (by omega) hw
def wp_X0_add (D : zD) (post : Int64 → zM → Prop) (xp : Nat → zM → Prop) (k : Nat) (n : Nat) (o : Nat) (a0 : Int32) (a1 : Int32) (a2 : Int32) (M : zM) : Prop :=
    (wp_X0_isArgument D (fun r73 M => ((r73 = 0 → wp_X0_add_L39 D post xp o k n M) ∧ (¬ r73 = 0 → (wp_X0_isArgument D (fun r76 M => ((r76 = 0 → wp_X0_add_L39 D post xp o k n M) ∧ (¬ r76 = 0 → (wp_X0_isArgument D (fun r79 M => ((r79 = 0 → wp_X0_add_L39 D post xp o k n M) ∧ (¬ r79 = 0 → ((zis M o [0] ∧ wp_X0_typeOf D (fun r82 M => ((¬ r82 = (1 : Int32) → wp_X0_add_L39 D post xp o k n M) ∧ (r82 = (1 : Int32) → ((zis M o [0] ∧ wp_X0_typeOf D (fun r85 M => ((r85 = (1 : Int32) → (zgR M o 0 6 fun g88 => ((zd g88 fun b89 => zaR M b89 9 a0 fun v90 => ((zd v90 fun b91 => ((zis M b91 [22] ∧ wp_X25_decimal D (fun r92 M => wp_X0_add_L55 D post xp o k n a0 a1 a2 r92 M) b91 a0 M) ∨ (zis M b91 [23, 24] ∧ (∃ k96 n97, k96 ≤ k ∧ n97 ≤ n ∧ wp_X29_decimal D (fun r95 M => wp_X0_add_L55 D post xp o (k - k96) (n - n97) a0 a1 a2 r95 M) xp k96 n97 b91 a0 M))))))))) ∧ (¬ r85 = (1 : Int32) → wp_X0_add_L39 D post xp o k n M))) o a1 M))))) o a0 M))))) a2 M)))) a1 M)))) a0 M)
set_option maxHeartbeats 4000000 in
set_option maxRecDepth 100000 in
theorem w_X0_add {l : Launch} {D : zD} {post : Int64 → zM → Prop} {xp : Nat → zM → Prop} (hlt : l.stackTraces = false) {k : Nat} {n : Nat} {o : Nat} {a0 : Int32} {a1 : Int32} {a2 : Int32} {M : zM} (hw : wp_X0_add D post xp k n o a0 a1 a2 M) : zMet l D yX0_add (wsW_ yX0_add cX0_add 6 (some .long) [(78, 124, 125, 294)]) (rm_X0_add k n) k n [.ref o, .int a0, .int a1, .int a2] M zL post xp := by
  unfold wp_X0_add at hw
  have hlv : lv_args 0 [.ref o, .int a0, .int a1, .int a2] = [(0, .ref o), (1, .int a0), (2, .int a1), (3, .int a2)] := (zargs1 rfl (zargs1 rfl (zargs1 rfl (zargs1 rfl rfl))))
  refine z_ofWH hlt (by decide) (Nat.le_trans (zsl1 rfl (zsl1 rfl (zsl1 rfl (zsl1 rfl (Nat.le_refl 0 : (lg_sl []).length ≤ 0))))) (Nat.le_of_ble_eq_true rfl)) hlv ?_
  intro p e s m args below meth c ls hG hZ hl
  have hC := hG.1
  have hx := hC.x
  have hb := hC.b
  have hown := hC.o
  have hts := hC.ts
  have hlt := hG.2.2.2.2.2
  obtain ⟨cells, hce⟩ : ∃ z : Nat, z = 0 := ⟨0, rfl⟩
  obtain ⟨slots, hsl⟩ : ∃ z : Nat, z = 0 := ⟨0, rfl⟩
  refine W.cs (cells' := cells) (slots' := slots) hce.symm hsl.symm ?_
  have hk : cells + k ≤ k := by omega
  have hn : slots + n ≤ n := by omega
  clear hce hsl
  refine lv_iload_n hx hb dX0_add_0 rfl (lv_at hl 1 rfl) ?_
  refine z_callI hZ (vx_runS (As := [.int a0]) (rest := []) hC.fix (w_X0_isArgument hlt hw) (va_cwS 1 hts (lw_S q1085 q1086 q67 q1087) rfl rfl rfl dd_X0_isArgument ⟨Nat.le_of_ble_eq_true rfl, Nat.le_of_ble_eq_true rfl⟩) (z_preS hC hZ) rfl rfl hl.1 rfl (lv_room (Nat.zero_le _)) dX0_add_1 ⟨(show cells + 0 ≤ k by omega), (show slots + 0 ≤ n by omega)⟩) (fun r103 M H locs hw1 hZ => ?_) (fun q M H locs ci fs E T9 N9 hw hZ hc1 hM1 hb1 => False.elim hw)
  replace hw := hw1
  clear hw1
  refine W.cs (cells' := cells) (slots' := slots) rfl rfl ?_
  refine lv_if_eq (tgt := 39) hx hb dX0_add_4 (by decide) (fun c132 => ?_) (fun c132 => ?_)
  · replace hw := hw.1 c132
    exact wk_X0_add_L39 hG _ _ _ hk hn hZ (lv_sub hl [] rfl) hw
  · replace hw := hw.2 c132
    refine lv_iload_n hx hb dX0_add_7 rfl (lv_at hl 2 rfl) ?_
    refine z_callI hZ (vx_runS (As := [.int a1]) (rest := []) hC.fix (w_X0_isArgument hlt hw) (va_cwS 1 hts (lw_S q1085 q1086 q67 q1087) rfl rfl rfl dd_X0_isArgument ⟨Nat.le_of_ble_eq_true rfl, Nat.le_of_ble_eq_true rfl⟩) (z_preS hC hZ) rfl rfl hl.1 rfl (lv_room (Nat.zero_le _)) dX0_add_8 ⟨(show cells + 0 ≤ k by omega), (show slots + 0 ≤ n by omega)⟩) (fun r106 M H locs hw1 hZ => ?_) (fun q M H locs ci fs E T9 N9 hw hZ hc1 hM1 hb1 => False.elim hw)
    replace hw := hw1
    clear hw1
    refine W.cs (cells' := cells) (slots' := slots) rfl rfl ?_
    refine lv_if_eq (tgt := 39) hx hb dX0_add_11 (by decide) (fun c131 => ?_) (fun c131 => ?_)
    · replace hw := hw.1 c131
      exact wk_X0_add_L39 hG _ _ _ hk hn hZ (lv_sub hl [] rfl) hw
    · replace hw := hw.2 c131
      refine lv_iload_n hx hb dX0_add_14 rfl (lv_at hl 3 rfl) ?_
      refine z_callI hZ (vx_runS (As := [.int a2]) (rest := []) hC.fix (w_X0_isArgument hlt hw) (va_cwS 1 hts (lw_S q1085 q1086 q67 q1087) rfl rfl rfl dd_X0_isArgument ⟨Nat.le_of_ble_eq_true rfl, Nat.le_of_ble_eq_true rfl⟩) (z_preS hC hZ) rfl rfl hl.1 rfl (lv_room (Nat.zero_le _)) dX0_add_15 ⟨(show cells + 0 ≤ k by omega), (show slots + 0 ≤ n by omega)⟩) (fun r109 M H locs hw1 hZ => ?_) (fun q M H locs ci fs E T9 N9 hw hZ hc1 hM1 hb1 => False.elim hw)
      replace hw := hw1
      clear hw1
      refine W.cs (cells' := cells) (slots' := slots) rfl rfl ?_
      refine lv_if_eq (tgt := 39) hx hb dX0_add_18 (by decide) (fun c130 => ?_) (fun c130 => ?_)
      · replace hw := hw.1 c130
        exact wk_X0_add_L39 hG _ _ _ hk hn hZ (lv_sub hl [] rfl) hw
      · replace hw := hw.2 c130
        refine lv_aload_n hx hb dX0_add_21 rfl (lv_at hl 0 rfl) ?_
        refine lv_iload_n hx hb dX0_add_22 rfl (lv_at hl 1 rfl) ?_
        obtain ⟨⟨ci0, fs0, hci0, hM0⟩, hw⟩ := hw
        obtain rfl : ci0 = 0 := List.mem_singleton.mp hci0
        refine z_callI hZ (vx_runV (As := [.int a0]) (rest := []) hC.fix (w_X0_typeOf hlt hw) (cwV 1 hts (lw_V q1232 q1234 qs23 q67 q1235) rfl rfl rfl ⟨rfl, dd_X0_typeOf⟩ ⟨Nat.le_of_ble_eq_true rfl, Nat.le_of_ble_eq_true rfl⟩) (z_preV hC hZ hM0 zc0) rfl rfl hl.1 rfl (lv_room (Nat.zero_le _)) dX0_add_23 ⟨(show cells + 0 ≤ k by omega), (show slots + 0 ≤ n by omega)⟩) (fun r112 M H locs hw1 hZ => ?_) (fun q M H locs ci fs E T9 N9 hw hZ hc1 hM1 hb1 => False.elim hw)
        replace hw := hw1
        clear hw1
        refine W.cs (cells' := cells) (slots' := slots) rfl rfl ?_
        refine lv_iconst (v := 1) hx hb dX0_add_26 (by decide) ?_
        refine lv_icmp_ne (tgt := 39) hx hb dX0_add_27 (by decide) (fun c129 => ?_) (fun c129 => ?_)
        · replace hw := hw.1 c129
          exact wk_X0_add_L39 hG _ _ _ hk hn hZ (lv_sub hl [] rfl) hw
        · replace hw := hw.2 c129
          refine lv_aload_n hx hb dX0_add_30 rfl (lv_at hl 0 rfl) ?_
          refine lv_iload_n hx hb dX0_add_31 rfl (lv_at hl 2 rfl) ?_
          obtain ⟨⟨ci0, fs0, hci0, hM0⟩, hw⟩ := hw
          obtain rfl : ci0 = 0 := List.mem_singleton.mp hci0
          refine z_callI hZ (vx_runV (As := [.int a1]) (rest := []) hC.fix (w_X0_typeOf hlt hw) (cwV 1 hts (lw_V q1232 q1234 qs23 q67 q1235) rfl rfl rfl ⟨rfl, dd_X0_typeOf⟩ ⟨Nat.le_of_ble_eq_true rfl, Nat.le_of_ble_eq_true rfl⟩) (z_preV hC hZ hM0 zc0) rfl rfl hl.1 rfl (lv_room (Nat.zero_le _)) dX0_add_32 ⟨(show cells + 0 ≤ k by omega), (show slots + 0 ≤ n by omega)⟩) (fun r115 M H locs hw1 hZ => ?_) (fun q M H locs ci fs E T9 N9 hw hZ hc1 hM1 hb1 => False.elim hw)
          replace hw := hw1
          clear hw1
          refine W.cs (cells' := cells) (slots' := slots) rfl rfl ?_
          refine lv_iconst (v := 1) hx hb dX0_add_35 (by decide) ?_
          refine lv_icmp_eq (tgt := 43) hx hb dX0_add_36 (by decide) (fun c128 => ?_) (fun c128 => ?_)
          · replace hw := hw.1 c128
            refine lv_aload_n hx hb dX0_add_43 rfl (lv_at hl 0 rfl) ?_
            obtain ⟨fs0, g118, hM0, hx0, hw⟩ := hw
            refine z_get hC hZ hM0 zc0 6 (by decide) q407 (fun _ h9 => h9) hx0 dX0_add_44 ?_
            refine lv_iload_n hx hb dX0_add_47 rfl (lv_at hl 1 rfl) ?_
            obtain ⟨b119, hr0, hw⟩ := hw
            subst hr0
            obtain ⟨n0, f0, v120, hM0, hi0, hr0, hw⟩ := hw
            refine z_aald hC hZ hM0 (by decide) rfl hi0 hr0 dX0_add_48 ?_
            refine lv_iload_n hx hb dX0_add_49 rfl (lv_at hl 1 rfl) ?_
            obtain ⟨b121, hr0, hw⟩ := hw
            subst hr0
            rcases hw with hw | hw
            · obtain ⟨⟨ci0, fs0, hci0, hM0⟩, hw⟩ := hw
              obtain ⟨C0, T0, N0, ty0, hc0, hsel0, hf0⟩ : ∃ (C0 : String) (T0 : u_T) (N0 : Nat) (ty0 : Nat → FieldType), zCls ci0 C0 T0 N0 ty0 ∧ Cond.selects C0 ⟨"PluralBranches$Thing", "decimal", "(I)LPluralBranches$Decimal;"⟩ yX25_decimal ∈ lw_all ∧ (C0, ⟨"PluralBranches$Thing", "decimal", "(I)LPluralBranches$Decimal;"⟩, yX25_decimal) ∈ zFs := (zal ⟨_, _, _, _, zc22, q1327, List.mem_of_getElem? (i := 8) rfl⟩ (za0) : ∀ ci ∈ [22], ∃ (C0 : String) (T0 : u_T) (N0 : Nat) (ty0 : Nat → FieldType), zCls ci C0 T0 N0 ty0 ∧ Cond.selects C0 ⟨"PluralBranches$Thing", "decimal", "(I)LPluralBranches$Decimal;"⟩ yX25_decimal ∈ lw_all ∧ (C0, ⟨"PluralBranches$Thing", "decimal", "(I)LPluralBranches$Decimal;"⟩, yX25_decimal) ∈ zFs) ci0 hci0
              refine z_callR5 hZ (vx_runF (As := [.int a0]) (rest := []) (hC.vK.1 _ _ hc0.1).2 hC.fix (w_X25_decimal hlt hw) (va_cwF 1 hts (lw_app (zal q1317 (zal hsel0 (zal q1329 (zal q109 za0)))) (lw_meth q1331)) rfl rfl rfl (hC.K.2.2.2.1 _ hf0) (by decide +kernel) ⟨Nat.le_of_ble_eq_true rfl, Nat.le_of_ble_eq_true rfl⟩) (z_preV hC hZ hM0 hc0) rfl rfl hl.1 rfl (lv_room (Nat.zero_le _)) dX0_add_50 ⟨(show cells + 0 ≤ k by omega), (show slots + 0 ≤ n by omega)⟩) (fun r122 M H locs hw1 hZ => ?_) (fun q M H locs ci fs E T9 N9 hw hZ hc1 hM1 hb1 => False.elim hw)
              replace hw := hw1
              clear hw1
              refine W.cs (cells' := cells) (slots' := slots) rfl rfl ?_
              exact wk_X0_add_L55 hG _ _ _ _ _ _ _ hk hn hZ (lv_sub hl [0, 1, 2, 3] rfl) hw
            · obtain ⟨⟨ci0, fs0, hci0, hM0⟩, hw⟩ := hw
              obtain ⟨k126, n127, hk1, hn1, hw⟩ := hw
              obtain ⟨C0, T0, N0, ty0, hc0, hin0⟩ : ∃ (C0 : String) (T0 : u_T) (N0 : Nat) (ty0 : Nat → FieldType), zCls ci0 C0 T0 N0 ty0 ∧ C0 ∈ ["PluralBranches$Gendered", "PluralBranches$Listed"] := (zal ⟨_, _, _, _, zc23, by decide⟩ (zal ⟨_, _, _, _, zc24, by decide⟩ (za0)) : ∀ ci ∈ [23, 24], ∃ (C0 : String) (T0 : u_T) (N0 : Nat) (ty0 : Nat → FieldType), zCls ci C0 T0 N0 ty0 ∧ C0 ∈ ["PluralBranches$Gendered", "PluralBranches$Listed"]) ci0 hci0
              refine z_callR5 hZ (z_runDef (As := [.int a0]) (rest := []) hC hin0 (w_X29_decimal hlt hw) (hC.vK.1 _ _ hc0.1).2 q1317 ⟨Nat.le_of_ble_eq_true rfl, Nat.le_of_ble_eq_true rfl⟩ q1321 q2266 (lw_meth q1323) (z_preV hC hZ hM0 hc0) rfl rfl rfl rfl hl.1 rfl (lv_room (Nat.zero_le _)) dX0_add_50 ⟨(show cells + k126 ≤ k by omega), (show slots + n127 ≤ n by omega)⟩) (fun r125 M H locs hw1 hZ => ?_) (fun q M H locs ci fs E T9 N9 hw1 hZ hc1 hM1 hb1 => ?_)
              · replace hw := hw1
                clear hw1
                have hk : cells + k126 + (k - k126) ≤ k := by omega
                have hn : slots + n127 + (n - n127) ≤ n := by omega
                generalize cells + k126 = cells at hk ⊢
                generalize slots + n127 = slots at hn ⊢
                clear hk1 hn1
                exact wk_X0_add_L55 hG _ _ _ _ _ _ _ hk hn hZ (lv_sub hl [0, 1, 2, 3] rfl) hw
              · replace hw := hw1
                clear hw1
                exact z_out hG hZ hM1 hb1 hc1 (by decide) (by omega) (by omega) hw
          · replace hw := hw.2 c128
            exact wk_X0_add_L39 hG _ _ _ hk hn hZ (lv_sub hl [] rfl) hw
abbrev rm_X0_isSlot : Room := { frames := 2, cells := 0, slots := 0, locals := 89 }
def wp_X0_isSlot (D : zD) (post : Int32 → zM → Prop) (a0 : Int32) (M : zM) : Prop :=
    (wp_X0_in D (fun r1 M => (narrow .boolean (.int r1) = .int r1 ∧ post r1 M)) (a0.toInt64) (0 : Int64) (3 : Int64) M)
set_option maxHeartbeats 4000000 in
set_option maxRecDepth 100000 in
theorem w_X0_isSlot {l : Launch} {D : zD} {post : Int32 → zM → Prop} (hlt : l.stackTraces = false) {a0 : Int32} {M : zM} (hw : wp_X0_isSlot D post a0 M) : zMet l D yX0_isSlot (ws_ yX0_isSlot cX0_isSlot 1 (some .boolean)) rm_X0_isSlot 0 0 [.int a0] M zI post (fun _ _ => False) := by
  unfold wp_X0_isSlot at hw
  have hlv : lv_args 0 [.int a0] = [(0, .int a0)] := (zargs1 rfl rfl)
  refine z_ofW hlt (by decide) (Nat.le_trans (zsl1 rfl (Nat.le_refl 0 : (lg_sl []).length ≤ 0)) (Nat.le_of_ble_eq_true rfl)) hlv ?_
  intro p e s m args below meth c ls hG hZ hl
  have hC := hG.1
  have hx := hC.x
  have hb := hC.b
  have hown := hC.o
  have hts := hC.ts
  have hlt := hG.2.2.2.2.2
  obtain ⟨cells, hce⟩ : ∃ z : Nat, z = 0 := ⟨0, rfl⟩
  obtain ⟨slots, hsl⟩ : ∃ z : Nat, z = 0 := ⟨0, rfl⟩
  refine W.cs (cells' := cells) (slots' := slots) hce.symm hsl.symm ?_
  have hk : cells ≤ 0 := Nat.le_of_eq hce
  have hn : slots ≤ 0 := Nat.le_of_eq hsl
  clear hce hsl
  refine lv_iload_n hx hb dX0_isSlot_0 rfl (lv_at hl 0 rfl) ?_
  refine lv_i2l hx hb dX0_isSlot_1 rfl ?_
  refine lv_lconst (v := 0) hx hb dX0_isSlot_2 (by decide) ?_
  refine lv_ldc2 hx hb hown (hts _ q531) dX0_isSlot_3 ?_
  refine z_callI hZ (vx_runS (As := [.long (a0.toInt64), .long (0 : Int64), .long (3 : Int64)]) (rest := []) hC.fix (w_X0_in hlt hw) (va_cwS 3 hts (lw_S q434 q435 q67 q436) rfl rfl rfl dd_X0_in ⟨Nat.le_of_ble_eq_true rfl, Nat.le_of_ble_eq_true rfl⟩) (z_preS hC hZ) rfl rfl hl.1 rfl (lv_room (Nat.zero_le _)) dX0_isSlot_6 ⟨hk, hn⟩) (fun r4 M H locs hw1 hZ => ?_) (fun q M H locs ci fs E T9 N9 hw hZ hc1 hM1 hb1 => False.elim hw)
  replace hw := hw1
  clear hw1
  refine W.cs (cells' := cells) (slots' := slots) rfl rfl ?_
  exact z_zret hG hZ hk hn hw.1 hw.2 dX0_isSlot_9
abbrev rm_X0_isLanguage : Room := { frames := 2, cells := 0, slots := 0, locals := 89 }
def wp_X0_isLanguage (D : zD) (post : Int32 → zM → Prop) (a0 : Int32) (M : zM) : Prop :=
    (wp_X0_in D (fun r1 M => (narrow .boolean (.int r1) = .int r1 ∧ post r1 M)) (a0.toInt64) (0 : Int64) (6 : Int64) M)
set_option maxHeartbeats 4000000 in
set_option maxRecDepth 100000 in
theorem w_X0_isLanguage {l : Launch} {D : zD} {post : Int32 → zM → Prop} (hlt : l.stackTraces = false) {a0 : Int32} {M : zM} (hw : wp_X0_isLanguage D post a0 M) : zMet l D yX0_isLanguage (ws_ yX0_isLanguage cX0_isLanguage 1 (some .boolean)) rm_X0_isLanguage 0 0 [.int a0] M zI post (fun _ _ => False) := by
  unfold wp_X0_isLanguage at hw
  have hlv : lv_args 0 [.int a0] = [(0, .int a0)] := (zargs1 rfl rfl)
  refine z_ofW hlt (by decide) (Nat.le_trans (zsl1 rfl (Nat.le_refl 0 : (lg_sl []).length ≤ 0)) (Nat.le_of_ble_eq_true rfl)) hlv ?_
  intro p e s m args below meth c ls hG hZ hl
  have hC := hG.1
  have hx := hC.x
  have hb := hC.b
  have hown := hC.o
  have hts := hC.ts
  have hlt := hG.2.2.2.2.2
  obtain ⟨cells, hce⟩ : ∃ z : Nat, z = 0 := ⟨0, rfl⟩
  obtain ⟨slots, hsl⟩ : ∃ z : Nat, z = 0 := ⟨0, rfl⟩
  refine W.cs (cells' := cells) (slots' := slots) hce.symm hsl.symm ?_
  have hk : cells ≤ 0 := Nat.le_of_eq hce
  have hn : slots ≤ 0 := Nat.le_of_eq hsl
  clear hce hsl
  refine lv_iload_n hx hb dX0_isLanguage_0 rfl (lv_at hl 0 rfl) ?_
  refine lv_i2l hx hb dX0_isLanguage_1 rfl ?_
  refine lv_lconst (v := 0) hx hb dX0_isLanguage_2 (by decide) ?_
  refine lv_ldc2 hx hb hown (hts _ q433) dX0_isLanguage_3 ?_
  refine z_callI hZ (vx_runS (As := [.long (a0.toInt64), .long (0 : Int64), .long (6 : Int64)]) (rest := []) hC.fix (w_X0_in hlt hw) (va_cwS 3 hts (lw_S q434 q435 q67 q436) rfl rfl rfl dd_X0_in ⟨Nat.le_of_ble_eq_true rfl, Nat.le_of_ble_eq_true rfl⟩) (z_preS hC hZ) rfl rfl hl.1 rfl (lv_room (Nat.zero_le _)) dX0_isLanguage_6 ⟨hk, hn⟩) (fun r4 M H locs hw1 hZ => ?_) (fun q M H locs ci fs E T9 N9 hw hZ hc1 hM1 hb1 => False.elim hw)
  replace hw := hw1
  clear hw1
  refine W.cs (cells' := cells) (slots' := slots) rfl rfl ?_
  exact z_zret hG hZ hk hn hw.1 hw.2 dX0_isLanguage_9
abbrev rm_X0_isScale : Room := { frames := 2, cells := 0, slots := 0, locals := 89 }
def wp_X0_isScale (D : zD) (post : Int32 → zM → Prop) (a0 : Int32) (M : zM) : Prop :=
    (wp_X0_in D (fun r1 M => (narrow .boolean (.int r1) = .int r1 ∧ post r1 M)) (a0.toInt64) (0 : Int64) (6 : Int64) M)
set_option maxHeartbeats 4000000 in
set_option maxRecDepth 100000 in
theorem w_X0_isScale {l : Launch} {D : zD} {post : Int32 → zM → Prop} (hlt : l.stackTraces = false) {a0 : Int32} {M : zM} (hw : wp_X0_isScale D post a0 M) : zMet l D yX0_isScale (ws_ yX0_isScale cX0_isScale 1 (some .boolean)) rm_X0_isScale 0 0 [.int a0] M zI post (fun _ _ => False) := by
  unfold wp_X0_isScale at hw
  have hlv : lv_args 0 [.int a0] = [(0, .int a0)] := (zargs1 rfl rfl)
  refine z_ofW hlt (by decide) (Nat.le_trans (zsl1 rfl (Nat.le_refl 0 : (lg_sl []).length ≤ 0)) (Nat.le_of_ble_eq_true rfl)) hlv ?_
  intro p e s m args below meth c ls hG hZ hl
  have hC := hG.1
  have hx := hC.x
  have hb := hC.b
  have hown := hC.o
  have hts := hC.ts
  have hlt := hG.2.2.2.2.2
  obtain ⟨cells, hce⟩ : ∃ z : Nat, z = 0 := ⟨0, rfl⟩
  obtain ⟨slots, hsl⟩ : ∃ z : Nat, z = 0 := ⟨0, rfl⟩
  refine W.cs (cells' := cells) (slots' := slots) hce.symm hsl.symm ?_
  have hk : cells ≤ 0 := Nat.le_of_eq hce
  have hn : slots ≤ 0 := Nat.le_of_eq hsl
  clear hce hsl
  refine lv_iload_n hx hb dX0_isScale_0 rfl (lv_at hl 0 rfl) ?_
  refine lv_i2l hx hb dX0_isScale_1 rfl ?_
  refine lv_lconst (v := 0) hx hb dX0_isScale_2 (by decide) ?_
  refine lv_ldc2 hx hb hown (hts _ q433) dX0_isScale_3 ?_
  refine z_callI hZ (vx_runS (As := [.long (a0.toInt64), .long (0 : Int64), .long (6 : Int64)]) (rest := []) hC.fix (w_X0_in hlt hw) (va_cwS 3 hts (lw_S q434 q435 q67 q436) rfl rfl rfl dd_X0_in ⟨Nat.le_of_ble_eq_true rfl, Nat.le_of_ble_eq_true rfl⟩) (z_preS hC hZ) rfl rfl hl.1 rfl (lv_room (Nat.zero_le _)) dX0_isScale_6 ⟨hk, hn⟩) (fun r4 M H locs hw1 hZ => ?_) (fun q M H locs ci fs E T9 N9 hw hZ hc1 hM1 hb1 => False.elim hw)
  replace hw := hw1
  clear hw1
  refine W.cs (cells' := cells) (slots' := slots) rfl rfl ?_
  exact z_zret hG hZ hk hn hw.1 hw.2 dX0_isScale_9
abbrev rm_X0_choiceOf : Room := { frames := 4, cells := 0, slots := 0, locals := 128 }
def wp_X0_choiceOf_L53 (D : zD) (post : Option Nat → zM → Prop) (o : Nat) (y0 : Option Nat) (M : zM) : Prop :=
    post y0 M
set_option maxHeartbeats 4000000 in
set_option maxRecDepth 100000 in
theorem wk_X0_choiceOf_L53 {p : Program} {l : Launch} {e : Env} {s : State} {m : MethodId} {args : Array Value} {below : List Frame} {meth : Method} {c : Code} {D : zD} {post : Option Nat → zM → Prop} {o : Nat} (hG : zGx p l s m args meth c cX0_choiceOf 3 "PluralBranches" D (some (.object "PluralBranches$Choice")) "choiceOf" []) : ∀ {H : Heap} {locs : List Loc} {cells slots : Nat} {ls : Array Slot} (y0 : Option Nat) (M : zM), cells ≤ 0 → slots ≤ 0 → zS D M H locs → lv_has ls 3 [] → wp_X0_choiceOf_L53 D post o y0 M → W p l e rm_X0_choiceOf s m args below meth c H locs cells slots (vx_MQ below (zQ D zR post) (zX D (fun _ _ => False)) args s 0 0 (zA D)) (F0 m 53 ls [va_rf y0]) := by
  have hC := hG.1
  have hx := hC.x
  have hb := hC.b
  have hown := hC.o
  have hts := hC.ts
  have hlt := hG.2.2.2.2.2
  intro H locs cells slots ls y0 M hk hn hZ hl hw
  exact z_aret (r := y0) hG (Or.inl ⟨_, rfl⟩) hZ hk hn hw dX0_choiceOf_53
def wp_X0_choiceOf_L33 (D : zD) (post : Option Nat → zM → Prop) (o : Nat) (M : zM) : Prop :=
    wp_X0_choiceOf_L53 D post o none M
set_option maxHeartbeats 4000000 in
set_option maxRecDepth 100000 in
theorem wk_X0_choiceOf_L33 {p : Program} {l : Launch} {e : Env} {s : State} {m : MethodId} {args : Array Value} {below : List Frame} {meth : Method} {c : Code} {D : zD} {post : Option Nat → zM → Prop} {o : Nat} (hG : zGx p l s m args meth c cX0_choiceOf 3 "PluralBranches" D (some (.object "PluralBranches$Choice")) "choiceOf" []) : ∀ {H : Heap} {locs : List Loc} {cells slots : Nat} {ls : Array Slot} (M : zM), cells ≤ 0 → slots ≤ 0 → zS D M H locs → lv_has ls 3 [] → wp_X0_choiceOf_L33 D post o M → W p l e rm_X0_choiceOf s m args below meth c H locs cells slots (vx_MQ below (zQ D zR post) (zX D (fun _ _ => False)) args s 0 0 (zA D)) (F0 m 33 ls []) := by
  have hC := hG.1
  have hx := hC.x
  have hb := hC.b
  have hown := hC.o
  have hts := hC.ts
  have hlt := hG.2.2.2.2.2
  intro H locs cells slots ls M hk hn hZ hl hw
  refine z_null hC dX0_choiceOf_33 ?_
  refine lv_goto (tgt := 53) hx hb dX0_choiceOf_34 (by decide) ?_
  exact wk_X0_choiceOf_L53 hG _ _ hk hn hZ (lv_sub hl [] rfl) hw
def wp_X0_choiceOf (D : zD) (post : Option Nat → zM → Prop) (o : Nat) (a0 : Int32) (a1 : Int32) (M : zM) : Prop :=
    (zgR M o 0 5 fun g1 => ((zd g1 fun b2 => zaR M b2 8 a0 fun v3 => ((v3 = none → wp_X0_choiceOf_L33 D post o M) ∧ (∀ b4 : Nat, v3 = some b4 → (zgR M o 0 5 fun g5 => ((zd g5 fun b6 => zaR M b6 8 a0 fun v7 => ((zd v7 fun b8 => zgR M b8 10 2 fun g9 => ((zd g9 fun b10 => (zis M b10 [26] ∧ wp_J3_size D (fun r11 M => (wp_X0_in D (fun r14 M => ((¬ r14 = 0 → (zgR M o 0 5 fun g17 => ((zd g17 fun b18 => zaR M b18 8 a0 fun v19 => ((zd v19 fun b20 => zgR M b20 10 2 fun g21 => ((zd g21 fun b22 => (zis M b22 [26] ∧ wp_J3_get D (fun r23 M => ((∀ w, r23 = some w → zis M w [18, 19]) ∧ wp_X0_choiceOf_L53 D post o r23 M)) b22 a1 M))))))))) ∧ (r14 = 0 → wp_X0_choiceOf_L33 D post o M))) (a1.toInt64) (0 : Int64) ((r11 - (1 : Int32)).toInt64) M)) b10 M)))))))))))))
set_option maxHeartbeats 4000000 in
set_option maxRecDepth 100000 in
theorem w_X0_choiceOf {l : Launch} {D : zD} {post : Option Nat → zM → Prop} (hlt : l.stackTraces = false) {o : Nat} {a0 : Int32} {a1 : Int32} {M : zM} (hw : wp_X0_choiceOf D post o a0 a1 M) : zMet l D yX0_choiceOf (ws_ yX0_choiceOf cX0_choiceOf 3 (some (.object "PluralBranches$Choice"))) rm_X0_choiceOf 0 0 [.ref o, .int a0, .int a1] M zR post (fun _ _ => False) := by
  unfold wp_X0_choiceOf at hw
  have hlv : lv_args 0 [.ref o, .int a0, .int a1] = [(0, .ref o), (1, .int a0), (2, .int a1)] := (zargs1 rfl (zargs1 rfl (zargs1 rfl rfl)))
  refine z_ofW hlt (by decide) (Nat.le_trans (zsl1 rfl (zsl1 rfl (zsl1 rfl (Nat.le_refl 0 : (lg_sl []).length ≤ 0)))) (Nat.le_of_ble_eq_true rfl)) hlv ?_
  intro p e s m args below meth c ls hG hZ hl
  have hC := hG.1
  have hx := hC.x
  have hb := hC.b
  have hown := hC.o
  have hts := hC.ts
  have hlt := hG.2.2.2.2.2
  obtain ⟨cells, hce⟩ : ∃ z : Nat, z = 0 := ⟨0, rfl⟩
  obtain ⟨slots, hsl⟩ : ∃ z : Nat, z = 0 := ⟨0, rfl⟩
  refine W.cs (cells' := cells) (slots' := slots) hce.symm hsl.symm ?_
  have hk : cells ≤ 0 := Nat.le_of_eq hce
  have hn : slots ≤ 0 := Nat.le_of_eq hsl
  clear hce hsl
  refine lv_aload_n hx hb dX0_choiceOf_0 rfl (lv_at hl 0 rfl) ?_
  obtain ⟨fs0, g27, hM0, hx0, hw⟩ := hw
  refine z_get hC hZ hM0 zc0 5 (by decide) q406 (fun _ h9 => h9) hx0 dX0_choiceOf_1 ?_
  refine lv_iload_n hx hb dX0_choiceOf_4 rfl (lv_at hl 1 rfl) ?_
  obtain ⟨b28, hr0, hw⟩ := hw
  subst hr0
  obtain ⟨n0, f0, v29, hM0, hi0, hr0, hw⟩ := hw
  refine z_aald hC hZ hM0 (by decide) rfl hi0 hr0 dX0_choiceOf_5 ?_
  refine z_ifnull (tgt := 33) hC dX0_choiceOf_6 (by decide) (fun hr0 => ?_) (fun b30 hr0 => ?_)
  · replace hw := hw.1 hr0
    exact wk_X0_choiceOf_L33 hG _ hk hn hZ (lv_sub hl [] rfl) hw
  · replace hw := hw.2 b30 hr0
    subst hr0
    refine lv_iload_n hx hb dX0_choiceOf_9 rfl (lv_at hl 2 rfl) ?_
    refine lv_i2l hx hb dX0_choiceOf_10 rfl ?_
    refine lv_lconst (v := 0) hx hb dX0_choiceOf_11 (by decide) ?_
    refine lv_aload_n hx hb dX0_choiceOf_12 rfl (lv_at hl 0 rfl) ?_
    obtain ⟨fs0, g31, hM0, hx0, hw⟩ := hw
    refine z_get hC hZ hM0 zc0 5 (by decide) q406 (fun _ h9 => h9) hx0 dX0_choiceOf_13 ?_
    refine lv_iload_n hx hb dX0_choiceOf_16 rfl (lv_at hl 1 rfl) ?_
    obtain ⟨b32, hr0, hw⟩ := hw
    subst hr0
    obtain ⟨n0, f0, v33, hM0, hi0, hr0, hw⟩ := hw
    refine z_aald hC hZ hM0 (by decide) rfl hi0 hr0 dX0_choiceOf_17 ?_
    obtain ⟨b34, hr0, hw⟩ := hw
    subst hr0
    obtain ⟨fs0, g35, hM0, hx0, hw⟩ := hw
    refine z_getN hC hZ hM0 zc10 2 (by decide) q552 (fun _ h9 => h9) hx0 dX0_choiceOf_18 ?_
    obtain ⟨b36, hr0, hw⟩ := hw
    subst hr0
    obtain ⟨⟨ci0, fs0, hci0, hM0⟩, hw⟩ := hw
    obtain rfl : ci0 = 26 := List.mem_singleton.mp hci0
    refine z_callI hZ (vx_runV (As := []) (rest := [.long (0 : Int64), .long (a1.toInt64)]) hC.fix (w_J3_size hlt hw) (cwV 0 hts (lw_V q505 q464 q465 q74 q466) rfl rfl rfl ⟨rfl, dd_J3_size⟩ ⟨Nat.le_of_ble_eq_true rfl, Nat.le_of_ble_eq_true rfl⟩) (z_preV hC hZ hM0 zc26) rfl rfl hl.1 rfl (lv_room (Nat.le_trans (zrm2 rfl (zrm2 rfl zrm0)) (Nat.le_of_ble_eq_true rfl))) dX0_choiceOf_21 ⟨hk, hn⟩) (fun r37 M H locs hw1 hZ => ?_) (fun q M H locs ci fs E T9 N9 hw hZ hc1 hM1 hb1 => False.elim hw)
    replace hw := hw1
    clear hw1
    refine W.cs (cells' := cells) (slots' := slots) rfl rfl ?_
    refine lv_iconst (v := 1) hx hb dX0_choiceOf_24 (by decide) ?_
    refine lv_isub hx hb dX0_choiceOf_25 ?_
    refine lv_i2l hx hb dX0_choiceOf_26 rfl ?_
    refine z_callI hZ (vx_runS (As := [.long (a1.toInt64), .long (0 : Int64), .long ((r37 - (1 : Int32)).toInt64)]) (rest := []) hC.fix (w_X0_in hlt hw) (va_cwS 3 hts (lw_S q434 q435 q67 q436) rfl rfl rfl dd_X0_in ⟨Nat.le_of_ble_eq_true rfl, Nat.le_of_ble_eq_true rfl⟩) (z_preS hC hZ) rfl rfl hl.1 rfl (lv_room (Nat.zero_le _)) dX0_choiceOf_27 ⟨hk, hn⟩) (fun r40 M H locs hw1 hZ => ?_) (fun q M H locs ci fs E T9 N9 hw hZ hc1 hM1 hb1 => False.elim hw)
    replace hw := hw1
    clear hw1
    refine W.cs (cells' := cells) (slots' := slots) rfl rfl ?_
    refine lv_if_ne (tgt := 37) hx hb dX0_choiceOf_30 (by decide) (fun c52 => ?_) (fun c52 => ?_)
    · replace hw := hw.1 c52
      refine lv_aload_n hx hb dX0_choiceOf_37 rfl (lv_at hl 0 rfl) ?_
      obtain ⟨fs0, g43, hM0, hx0, hw⟩ := hw
      refine z_get hC hZ hM0 zc0 5 (by decide) q406 (fun _ h9 => h9) hx0 dX0_choiceOf_38 ?_
      refine lv_iload_n hx hb dX0_choiceOf_41 rfl (lv_at hl 1 rfl) ?_
      obtain ⟨b44, hr0, hw⟩ := hw
      subst hr0
      obtain ⟨n0, f0, v45, hM0, hi0, hr0, hw⟩ := hw
      refine z_aald hC hZ hM0 (by decide) rfl hi0 hr0 dX0_choiceOf_42 ?_
      obtain ⟨b46, hr0, hw⟩ := hw
      subst hr0
      obtain ⟨fs0, g47, hM0, hx0, hw⟩ := hw
      refine z_getN hC hZ hM0 zc10 2 (by decide) q552 (fun _ h9 => h9) hx0 dX0_choiceOf_43 ?_
      refine lv_iload_n hx hb dX0_choiceOf_46 rfl (lv_at hl 2 rfl) ?_
      obtain ⟨b48, hr0, hw⟩ := hw
      subst hr0
      obtain ⟨⟨ci0, fs0, hci0, hM0⟩, hw⟩ := hw
      obtain rfl : ci0 = 26 := List.mem_singleton.mp hci0
      refine z_callR hZ (vx_runV (As := [.int a1]) (rest := []) hC.fix (w_J3_get hlt hw) (cwV 1 hts (lw_V q1096 q468 q469 q74 q470) rfl rfl rfl ⟨rfl, dd_J3_get⟩ ⟨Nat.le_of_ble_eq_true rfl, Nat.le_of_ble_eq_true rfl⟩) (z_preV hC hZ hM0 zc26) rfl rfl hl.1 rfl (lv_room (Nat.zero_le _)) dX0_choiceOf_47 ⟨hk, hn⟩) (fun r49 M H locs hw1 hZ => ?_) (fun q M H locs ci fs E T9 N9 hw hZ hc1 hM1 hb1 => False.elim hw)
      replace hw := hw1
      clear hw1
      refine W.cs (cells' := cells) (slots' := slots) rfl rfl ?_
      obtain ⟨hc0, hw⟩ := hw
      refine z_castO (r := r49) hC hZ hc0 (zal ⟨_, _, _, _, zc18, (Or.inr q2275)⟩ (zal ⟨_, _, _, _, zc19, (Or.inr q2274)⟩ (za0))) q1097 dX0_choiceOf_50 ?_
      exact wk_X0_choiceOf_L53 hG _ _ hk hn hZ (lv_sub hl [] rfl) hw
    · replace hw := hw.2 c52
      exact wk_X0_choiceOf_L33 hG _ hk hn hZ (lv_sub hl [] rfl) hw
abbrev rm_X1_is : Room := { frames := 1, cells := 0, slots := 0, locals := 64 }
def wp_X1_is_L31 (D : zD) (post : Int32 → zM → Prop) (o : Nat) (y0 : Int32) (M : zM) : Prop :=
    (narrow .boolean (.int y0) = .int y0 ∧ post y0 M)
set_option maxHeartbeats 4000000 in
set_option maxRecDepth 100000 in
theorem wk_X1_is_L31 {p : Program} {l : Launch} {e : Env} {s : State} {m : MethodId} {args : Array Value} {below : List Frame} {meth : Method} {c : Code} {D : zD} {post : Int32 → zM → Prop} {o : Nat} (hG : zGx p l s m args meth c cX1_is 2 "PluralBranches$Decimal" D (some .boolean) "is" []) : ∀ {H : Heap} {locs : List Loc} {cells slots : Nat} {ls : Array Slot} (y0 : Int32) (M : zM), cells ≤ 0 → slots ≤ 0 → zS D M H locs → lv_has ls 2 [] → wp_X1_is_L31 D post o y0 M → W p l e rm_X1_is s m args below meth c H locs cells slots (vx_MQ below (zQ D zI post) (zX D (fun _ _ => False)) args s 0 0 (zA D)) (F0 m 31 ls [.int y0]) := by
  have hC := hG.1
  have hx := hC.x
  have hb := hC.b
  have hown := hC.o
  have hts := hC.ts
  have hlt := hG.2.2.2.2.2
  intro H locs cells slots ls y0 M hk hn hZ hl hw
  exact z_zret hG hZ hk hn hw.1 hw.2 dX1_is_31
def wp_X1_is_L30 (D : zD) (post : Int32 → zM → Prop) (o : Nat) (M : zM) : Prop :=
    wp_X1_is_L31 D post o (0 : Int32) M
set_option maxHeartbeats 4000000 in
set_option maxRecDepth 100000 in
theorem wk_X1_is_L30 {p : Program} {l : Launch} {e : Env} {s : State} {m : MethodId} {args : Array Value} {below : List Frame} {meth : Method} {c : Code} {D : zD} {post : Int32 → zM → Prop} {o : Nat} (hG : zGx p l s m args meth c cX1_is 2 "PluralBranches$Decimal" D (some .boolean) "is" []) : ∀ {H : Heap} {locs : List Loc} {cells slots : Nat} {ls : Array Slot} (M : zM), cells ≤ 0 → slots ≤ 0 → zS D M H locs → lv_has ls 2 [] → wp_X1_is_L30 D post o M → W p l e rm_X1_is s m args below meth c H locs cells slots (vx_MQ below (zQ D zI post) (zX D (fun _ _ => False)) args s 0 0 (zA D)) (F0 m 30 ls []) := by
  have hC := hG.1
  have hx := hC.x
  have hb := hC.b
  have hown := hC.o
  have hts := hC.ts
  have hlt := hG.2.2.2.2.2
  intro H locs cells slots ls M hk hn hZ hl hw
  refine lv_iconst (v := 0) hx hb dX1_is_30 (by decide) ?_
  exact wk_X1_is_L31 hG _ _ hk hn hZ (lv_sub hl [] rfl) hw
def wp_X1_is (D : zD) (post : Int32 → zM → Prop) (o : Nat) (a0 : Int32) (M : zM) : Prop :=
    (zgL M o 1 3 fun g1 => ((¬ (lg_cmp g1 (0 : Int64)) = 0 → wp_X1_is_L30 D post o M) ∧ ((lg_cmp g1 (0 : Int64)) = 0 → (zgL M o 1 2 fun g2 => ((¬ (lg_cmp g2 (a0.toInt64)) = 0 → wp_X1_is_L30 D post o M) ∧ ((lg_cmp g2 (a0.toInt64)) = 0 → (zgI M o 1 0 fun g3 => ((g3 < 0 → wp_X1_is_L30 D post o M) ∧ (¬ g3 < 0 → wp_X1_is_L31 D post o (1 : Int32) M)))))))))
set_option maxHeartbeats 4000000 in
set_option maxRecDepth 100000 in
theorem w_X1_is {l : Launch} {D : zD} {post : Int32 → zM → Prop} (hlt : l.stackTraces = false) {o : Nat} {a0 : Int32} {M : zM} (hw : wp_X1_is D post o a0 M) : zMet l D yX1_is (ws_ yX1_is cX1_is 2 (some .boolean)) rm_X1_is 0 0 [.ref o, .int a0] M zI post (fun _ _ => False) := by
  unfold wp_X1_is at hw
  have hlv : lv_args 0 [.ref o, .int a0] = [(0, .ref o), (1, .int a0)] := (zargs1 rfl (zargs1 rfl rfl))
  refine z_ofW hlt (by decide) (Nat.le_trans (zsl1 rfl (zsl1 rfl (Nat.le_refl 0 : (lg_sl []).length ≤ 0))) (Nat.le_of_ble_eq_true rfl)) hlv ?_
  intro p e s m args below meth c ls hG hZ hl
  have hC := hG.1
  have hx := hC.x
  have hb := hC.b
  have hown := hC.o
  have hts := hC.ts
  have hlt := hG.2.2.2.2.2
  obtain ⟨cells, hce⟩ : ∃ z : Nat, z = 0 := ⟨0, rfl⟩
  obtain ⟨slots, hsl⟩ : ∃ z : Nat, z = 0 := ⟨0, rfl⟩
  refine W.cs (cells' := cells) (slots' := slots) hce.symm hsl.symm ?_
  have hk : cells ≤ 0 := Nat.le_of_eq hce
  have hn : slots ≤ 0 := Nat.le_of_eq hsl
  clear hce hsl
  refine lv_aload_n hx hb dX1_is_0 rfl (lv_at hl 0 rfl) ?_
  obtain ⟨fs0, g7, hM0, hx0, hw⟩ := hw
  refine z_get hC hZ hM0 zc1 3 (by decide) q159 (fun _ h9 => h9) hx0 dX1_is_1 ?_
  refine lv_lconst (v := 0) hx hb dX1_is_4 (by decide) ?_
  refine W.lcmp hx hb dX1_is_5 ?_
  refine lv_if_ne (tgt := 30) hx hb dX1_is_6 (by decide) (fun c12 => ?_) (fun c12 => ?_)
  · replace hw := hw.1 c12
    exact wk_X1_is_L30 hG _ hk hn hZ (lv_sub hl [] rfl) hw
  · replace hw := hw.2 c12
    refine lv_aload_n hx hb dX1_is_9 rfl (lv_at hl 0 rfl) ?_
    obtain ⟨fs0, g8, hM0, hx0, hw⟩ := hw
    refine z_get hC hZ hM0 zc1 2 (by decide) q157 (fun _ h9 => h9) hx0 dX1_is_10 ?_
    refine lv_iload_n hx hb dX1_is_13 rfl (lv_at hl 1 rfl) ?_
    refine lv_i2l hx hb dX1_is_14 rfl ?_
    refine W.lcmp hx hb dX1_is_15 ?_
    refine lv_if_ne (tgt := 30) hx hb dX1_is_16 (by decide) (fun c11 => ?_) (fun c11 => ?_)
    · replace hw := hw.1 c11
      exact wk_X1_is_L30 hG _ hk hn hZ (lv_sub hl [] rfl) hw
    · replace hw := hw.2 c11
      refine lv_aload_n hx hb dX1_is_19 rfl (lv_at hl 0 rfl) ?_
      obtain ⟨fs0, g9, hM0, hx0, hw⟩ := hw
      refine z_get hC hZ hM0 zc1 0 (by decide) q149 (fun _ h9 => h9) hx0 dX1_is_20 ?_
      refine lv_if_lt (tgt := 30) hx hb dX1_is_23 (by decide) (fun c10 => ?_) (fun c10 => ?_)
      · replace hw := hw.1 c10
        exact wk_X1_is_L30 hG _ hk hn hZ (lv_sub hl [] rfl) hw
      · replace hw := hw.2 c10
        refine lv_iconst (v := 1) hx hb dX1_is_26 (by decide) ?_
        refine lv_goto (tgt := 31) hx hb dX1_is_27 (by decide) ?_
        exact wk_X1_is_L31 hG _ _ hk hn hZ (lv_sub hl [] rfl) hw
abbrev rm_X1_operand : Room := { frames := 1, cells := 0, slots := 0, locals := 64 }
def wp_X1_operand (D : zD) (post : Int64 → zM → Prop) (o : Nat) (a0 : Int32) (M : zM) : Prop :=
    ((a0 = 0 → (zgL M o 1 2 fun g1 => post g1 M)) ∧ (a0 = 1 → (zgI M o 1 1 fun g2 => post (g2.toInt64) M)) ∧ (a0 = 2 → (zgL M o 1 3 fun g3 => post g3 M)) ∧ (a0 = 3 → (zgI M o 1 4 fun g4 => post (g4.toInt64) M)) ∧ (¬ a0 = 0 ∧ ¬ a0 = 1 ∧ ¬ a0 = 2 ∧ ¬ a0 = 3 → (zgL M o 1 5 fun g5 => post g5 M)))
set_option maxHeartbeats 4000000 in
set_option maxRecDepth 100000 in
theorem w_X1_operand {l : Launch} {D : zD} {post : Int64 → zM → Prop} (hlt : l.stackTraces = false) {o : Nat} {a0 : Int32} {M : zM} (hw : wp_X1_operand D post o a0 M) : zMet l D yX1_operand (ws_ yX1_operand cX1_operand 2 (some .long)) rm_X1_operand 0 0 [.ref o, .int a0] M zL post (fun _ _ => False) := by
  unfold wp_X1_operand at hw
  have hlv : lv_args 0 [.ref o, .int a0] = [(0, .ref o), (1, .int a0)] := (zargs1 rfl (zargs1 rfl rfl))
  refine z_ofW hlt (by decide) (Nat.le_trans (zsl1 rfl (zsl1 rfl (Nat.le_refl 0 : (lg_sl []).length ≤ 0))) (Nat.le_of_ble_eq_true rfl)) hlv ?_
  intro p e s m args below meth c ls hG hZ hl
  have hC := hG.1
  have hx := hC.x
  have hb := hC.b
  have hown := hC.o
  have hts := hC.ts
  have hlt := hG.2.2.2.2.2
  obtain ⟨cells, hce⟩ : ∃ z : Nat, z = 0 := ⟨0, rfl⟩
  obtain ⟨slots, hsl⟩ : ∃ z : Nat, z = 0 := ⟨0, rfl⟩
  refine W.cs (cells' := cells) (slots' := slots) hce.symm hsl.symm ?_
  have hk : cells ≤ 0 := Nat.le_of_eq hce
  have hn : slots ≤ 0 := Nat.le_of_eq hsl
  clear hce hsl
  refine lv_iload_n hx hb dX1_operand_0 rfl (lv_at hl 1 rfl) ?_
  by_cases e15 : a0 = 0
  · replace hw := hw.1 e15
    refine lv_tableIn (tgt := 32) (off := 31) hx hb dX1_operand_1 (by rw [e15]; decide) (by rw [e15]; decide) (by rw [e15]; decide) (by decide) ?_
    refine lv_aload_n hx hb dX1_operand_32 rfl (lv_at hl 0 rfl) ?_
    obtain ⟨fs0, g10, hM0, hx0, hw⟩ := hw
    refine z_get hC hZ hM0 zc1 2 (by decide) q157 (fun _ h9 => h9) hx0 dX1_operand_33 ?_
    exact z_lret hG hZ hk hn hw dX1_operand_36
  by_cases e16 : a0 = 1
  · replace hw := hw.2.1 e16
    refine lv_tableIn (tgt := 37) (off := 36) hx hb dX1_operand_1 (by rw [e16]; decide) (by rw [e16]; decide) (by rw [e16]; decide) (by decide) ?_
    refine lv_aload_n hx hb dX1_operand_37 rfl (lv_at hl 0 rfl) ?_
    obtain ⟨fs0, g11, hM0, hx0, hw⟩ := hw
    refine z_get hC hZ hM0 zc1 1 (by decide) q153 (fun _ h9 => h9) hx0 dX1_operand_38 ?_
    refine lv_i2l hx hb dX1_operand_41 rfl ?_
    exact z_lret hG hZ hk hn hw dX1_operand_42
  by_cases e17 : a0 = 2
  · replace hw := hw.2.2.1 e17
    refine lv_tableIn (tgt := 43) (off := 42) hx hb dX1_operand_1 (by rw [e17]; decide) (by rw [e17]; decide) (by rw [e17]; decide) (by decide) ?_
    refine lv_aload_n hx hb dX1_operand_43 rfl (lv_at hl 0 rfl) ?_
    obtain ⟨fs0, g12, hM0, hx0, hw⟩ := hw
    refine z_get hC hZ hM0 zc1 3 (by decide) q159 (fun _ h9 => h9) hx0 dX1_operand_44 ?_
    exact z_lret hG hZ hk hn hw dX1_operand_47
  by_cases e18 : a0 = 3
  · replace hw := hw.2.2.2.1 e18
    refine lv_tableIn (tgt := 48) (off := 47) hx hb dX1_operand_1 (by rw [e18]; decide) (by rw [e18]; decide) (by rw [e18]; decide) (by decide) ?_
    refine lv_aload_n hx hb dX1_operand_48 rfl (lv_at hl 0 rfl) ?_
    obtain ⟨fs0, g13, hM0, hx0, hw⟩ := hw
    refine z_get hC hZ hM0 zc1 4 (by decide) q161 (fun _ h9 => h9) hx0 dX1_operand_49 ?_
    refine lv_i2l hx hb dX1_operand_52 rfl ?_
    exact z_lret hG hZ hk hn hw dX1_operand_53
  replace hw := hw.2.2.2.2 ⟨e15, e16, e17, e18⟩
  refine z_tableK (tgt := 54) (S := [0, 1, 2, 3]) hx hb dX1_operand_1 (by decide) (by decide) (by decide) (zal (lv_neT e15 (by decide)) (zal (lv_neT e16 (by decide)) (zal (lv_neT e17 (by decide)) (zal (lv_neT e18 (by decide)) (za0))))) ?_
  refine lv_aload_n hx hb dX1_operand_54 rfl (lv_at hl 0 rfl) ?_
  obtain ⟨fs0, g14, hM0, hx0, hw⟩ := hw
  refine z_get hC hZ hM0 zc1 5 (by decide) q162 (fun _ h9 => h9) hx0 dX1_operand_55 ?_
  exact z_lret hG hZ hk hn hw dX1_operand_58
abbrev rm_X4_holds : Room := { frames := 2, cells := 0, slots := 0, locals := 89 }
def wp_X4_holds_L52 (D : zD) (post : Int32 → zM → Prop) (o : Nat) (y0 : Int32) (M : zM) : Prop :=
    (narrow .boolean (.int y0) = .int y0 ∧ post y0 M)
set_option maxHeartbeats 4000000 in
set_option maxRecDepth 100000 in
theorem wk_X4_holds_L52 {p : Program} {l : Launch} {e : Env} {s : State} {m : MethodId} {args : Array Value} {below : List Frame} {meth : Method} {c : Code} {D : zD} {post : Int32 → zM → Prop} {o : Nat} (hG : zGx p l s m args meth c cX4_holds 4 "PluralBranches$Condition" D (some .boolean) "holds" []) : ∀ {H : Heap} {locs : List Loc} {cells slots : Nat} {ls : Array Slot} (y0 : Int32) (M : zM), cells ≤ 0 → slots ≤ 0 → zS D M H locs → lv_has ls 4 [] → wp_X4_holds_L52 D post o y0 M → W p l e rm_X4_holds s m args below meth c H locs cells slots (vx_MQ below (zQ D zI post) (zX D (fun _ _ => False)) args s 0 0 (zA D)) (F0 m 52 ls [.int y0]) := by
  have hC := hG.1
  have hx := hC.x
  have hb := hC.b
  have hown := hC.o
  have hts := hC.ts
  have hlt := hG.2.2.2.2.2
  intro H locs cells slots ls y0 M hk hn hZ hl hw
  exact z_zret hG hZ hk hn hw.1 hw.2 dX4_holds_52
def wp_X4_holds_L27 (D : zD) (post : Int32 → zM → Prop) (o : Nat) (y0 : Int64) (M : zM) : Prop :=
    (zgI M o 3 4 fun g1 => (zgI M o 3 5 fun g2 => (wp_X0_in D (fun r3 M => (zgI M o 3 6 fun g6 => ((r3 = g6 → wp_X4_holds_L52 D post o (0 : Int32) M) ∧ (¬ r3 = g6 → wp_X4_holds_L52 D post o (1 : Int32) M)))) y0 (g1.toInt64) (g2.toInt64) M)))
set_option maxHeartbeats 4000000 in
set_option maxRecDepth 100000 in
theorem wk_X4_holds_L27 {p : Program} {l : Launch} {e : Env} {s : State} {m : MethodId} {args : Array Value} {below : List Frame} {meth : Method} {c : Code} {D : zD} {post : Int32 → zM → Prop} {o : Nat} (hG : zGx p l s m args meth c cX4_holds 4 "PluralBranches$Condition" D (some .boolean) "holds" []) : ∀ {H : Heap} {locs : List Loc} {cells slots : Nat} {ls : Array Slot} (y0 : Int64) (M : zM), cells ≤ 0 → slots ≤ 0 → zS D M H locs → lv_has ls 4 [(0, .ref o)] → wp_X4_holds_L27 D post o y0 M → W p l e rm_X4_holds s m args below meth c H locs cells slots (vx_MQ below (zQ D zI post) (zX D (fun _ _ => False)) args s 0 0 (zA D)) (F0 m 27 ls [.long y0]) := by
  have hC := hG.1
  have hx := hC.x
  have hb := hC.b
  have hown := hC.o
  have hts := hC.ts
  have hlt := hG.2.2.2.2.2
  intro H locs cells slots ls y0 M hk hn hZ hl hw
  refine lv_aload_n hx hb dX4_holds_27 rfl (lv_at hl 0 rfl) ?_
  obtain ⟨fs0, g8, hM0, hx0, hw⟩ := hw
  refine z_get hC hZ hM0 zc3 4 (by decide) q318 (fun _ h9 => h9) hx0 dX4_holds_28 ?_
  refine lv_i2l hx hb dX4_holds_31 rfl ?_
  refine lv_aload_n hx hb dX4_holds_32 rfl (lv_at hl 0 rfl) ?_
  obtain ⟨fs0, g9, hM0, hx0, hw⟩ := hw
  refine z_get hC hZ hM0 zc3 5 (by decide) q319 (fun _ h9 => h9) hx0 dX4_holds_33 ?_
  refine lv_i2l hx hb dX4_holds_36 rfl ?_
  refine z_callI hZ (vx_runSN (As := [.long y0, .long (g8.toInt64), .long (g9.toInt64)]) (rest := []) hC.fix (w_X0_in hlt hw) ⟨va_cnB 3 hts (lw_meth q436) rfl rfl rfl (hC.nw q486 rfl) (hts _ q67) dd_X0_in ⟨Nat.le_of_ble_eq_true rfl, Nat.le_of_ble_eq_true rfl⟩, hts _ q435, trivial⟩ (z_preS hC hZ) rfl rfl hl.1 rfl (lv_room (Nat.zero_le _)) dX4_holds_37 ⟨hk, hn⟩) (fun r10 M H locs hw1 hZ => ?_) (fun q M H locs ci fs E T9 N9 hw hZ hc1 hM1 hb1 => False.elim hw)
  replace hw := hw1
  clear hw1
  refine W.cs (cells' := cells) (slots' := slots) rfl rfl ?_
  refine lv_aload_n hx hb dX4_holds_40 rfl (lv_at hl 0 rfl) ?_
  obtain ⟨fs0, g13, hM0, hx0, hw⟩ := hw
  refine z_get hC hZ hM0 zc3 6 (by decide) q320 (fun _ h9 => h9) hx0 dX4_holds_41 ?_
  refine lv_icmp_eq (tgt := 51) hx hb dX4_holds_44 (by decide) (fun c14 => ?_) (fun c14 => ?_)
  · replace hw := hw.1 c14
    refine lv_iconst (v := 0) hx hb dX4_holds_51 (by decide) ?_
    exact wk_X4_holds_L52 hG _ _ hk hn hZ (lv_sub hl [] rfl) hw
  · replace hw := hw.2 c14
    refine lv_iconst (v := 1) hx hb dX4_holds_47 (by decide) ?_
    refine lv_goto (tgt := 52) hx hb dX4_holds_48 (by decide) ?_
    exact wk_X4_holds_L52 hG _ _ hk hn hZ (lv_sub hl [] rfl) hw
def wp_X4_holds (D : zD) (post : Int32 → zM → Prop) (o : Nat) (a0 : Option Nat) (M : zM) : Prop :=
    (zgI M o 3 2 fun g15 => ((zd a0 fun b16 => (zis M b16 [1] ∧ wp_X1_operand D (fun r17 M => (zgI M o 3 3 fun g20 => ((¬ g20 = 0 → (zgI M o 3 3 fun g21 => (¬ (g21.toInt64) = 0 ∧ wp_X4_holds_L27 D post o (r17 - r17 / (g21.toInt64) * (g21.toInt64)) M))) ∧ (g20 = 0 → wp_X4_holds_L27 D post o r17 M)))) b16 g15 M))))
set_option maxHeartbeats 4000000 in
set_option maxRecDepth 100000 in
theorem w_X4_holds {l : Launch} {D : zD} {post : Int32 → zM → Prop} (hlt : l.stackTraces = false) {o : Nat} {a0 : Option Nat} {M : zM} (hw : wp_X4_holds D post o a0 M) : zMet l D yX4_holds (ws_ yX4_holds cX4_holds 4 (some .boolean)) rm_X4_holds 0 0 [.ref o, va_rf a0] M zI post (fun _ _ => False) := by
  unfold wp_X4_holds at hw
  have hlv : lv_args 0 [.ref o, va_rf a0] = [(0, .ref o), (1, va_rf a0)] := (zargs1 rfl (zargs1 (zcat _) rfl))
  refine z_ofW hlt (by decide) (Nat.le_trans (zsl1 rfl (zsl1 (zcat _) (Nat.le_refl 0 : (lg_sl []).length ≤ 0))) (Nat.le_of_ble_eq_true rfl)) hlv ?_
  intro p e s m args below meth c ls hG hZ hl
  have hC := hG.1
  have hx := hC.x
  have hb := hC.b
  have hown := hC.o
  have hts := hC.ts
  have hlt := hG.2.2.2.2.2
  obtain ⟨cells, hce⟩ : ∃ z : Nat, z = 0 := ⟨0, rfl⟩
  obtain ⟨slots, hsl⟩ : ∃ z : Nat, z = 0 := ⟨0, rfl⟩
  refine W.cs (cells' := cells) (slots' := slots) hce.symm hsl.symm ?_
  have hk : cells ≤ 0 := Nat.le_of_eq hce
  have hn : slots ≤ 0 := Nat.le_of_eq hsl
  clear hce hsl
  refine z_aload_n hC dX4_holds_0 rfl (lv_at hl 1 rfl) ?_
  refine lv_aload_n hx hb dX4_holds_1 rfl (lv_at hl 0 rfl) ?_
  obtain ⟨fs0, g23, hM0, hx0, hw⟩ := hw
  refine z_get hC hZ hM0 zc3 2 (by decide) q316 (fun _ h9 => h9) hx0 dX4_holds_2 ?_
  obtain ⟨b24, hr0, hw⟩ := hw
  subst hr0
  obtain ⟨⟨ci0, fs0, hci0, hM0⟩, hw⟩ := hw
  obtain rfl : ci0 = 1 := List.mem_singleton.mp hci0
  refine z_callL hZ (vx_runV (As := [.int g23]) (rest := []) hC.fix (w_X1_operand hlt hw) (cwV 1 hts (lw_V q485 q439 q440 q68 q441) rfl rfl rfl ⟨rfl, dd_X1_operand⟩ ⟨Nat.le_of_ble_eq_true rfl, Nat.le_of_ble_eq_true rfl⟩) (z_preV hC hZ hM0 zc1) rfl rfl hl.1 rfl (lv_room (Nat.zero_le _)) dX4_holds_5 ⟨hk, hn⟩) (fun r25 M H locs hw1 hZ => ?_) (fun q M H locs ci fs E T9 N9 hw hZ hc1 hM1 hb1 => False.elim hw)
  replace hw := hw1
  clear hw1
  refine W.cs (cells' := cells) (slots' := slots) rfl rfl ?_
  refine lv_lstore_n (i := 2) (lv' := [(2, .long r25), (0, .ref o), (1, .ref b24)]) hx hb dX4_holds_8 rfl hl (by decide) rfl (fun ls hl1 => ?_)
  replace hl := hl1
  clear hl1
  refine lv_aload_n hx hb dX4_holds_9 rfl (lv_at hl 1 rfl) ?_
  obtain ⟨fs0, g28, hM0, hx0, hw⟩ := hw
  refine z_get hC hZ hM0 zc3 3 (by decide) q317 (fun _ h9 => h9) hx0 dX4_holds_10 ?_
  refine lv_if_ne (tgt := 20) hx hb dX4_holds_13 (by decide) (fun c30 => ?_) (fun c30 => ?_)
  · replace hw := hw.1 c30
    refine lv_lload_n hx hb dX4_holds_20 rfl (lv_at hl 0 rfl) ?_
    refine lv_aload_n hx hb dX4_holds_21 rfl (lv_at hl 1 rfl) ?_
    obtain ⟨fs0, g29, hM0, hx0, hw⟩ := hw
    refine z_get hC hZ hM0 zc3 3 (by decide) q317 (fun _ h9 => h9) hx0 dX4_holds_22 ?_
    refine lv_i2l hx hb dX4_holds_25 rfl ?_
    obtain ⟨hz0, hw⟩ := hw
    refine lv_lrem hx hb dX4_holds_26 hz0 ?_
    exact wk_X4_holds_L27 hG _ _ hk hn hZ (lv_sub hl [1] rfl) hw
  · replace hw := hw.2 c30
    refine lv_lload_n hx hb dX4_holds_16 rfl (lv_at hl 0 rfl) ?_
    refine lv_goto (tgt := 27) hx hb dX4_holds_17 (by decide) ?_
    exact wk_X4_holds_L27 hG _ _ hk hn hZ (lv_sub hl [1] rfl) hw
abbrev rm_X2_holds : Room := { frames := 4, cells := 0, slots := 0, locals := 128 }
def wp_X2_holds_L64 (D : zD) (post : Int32 → zM → Prop) (o : Nat) (k6 : Option Nat → Int32 → Int32 → Int32 → Int32 → zM → Prop) (x1 : Option Nat) (x2 : Int32) (x3 : Int32) (x4 : Int32) (x5 : Int32) (M : zM) : Prop :=
    k6 x1 x2 x3 x4 (x5 + 1) M
set_option maxHeartbeats 4000000 in
set_option maxRecDepth 100000 in
theorem wk_X2_holds_L64 {p : Program} {l : Launch} {e : Env} {s : State} {m : MethodId} {args : Array Value} {below : List Frame} {meth : Method} {c : Code} {D : zD} {post : Int32 → zM → Prop} {o : Nat} (hG : zGx p l s m args meth c cX2_holds 7 "PluralBranches$Language" D (some .boolean) "holds" []) (k6 : Option Nat → Int32 → Int32 → Int32 → Int32 → zM → Prop) (hk6 : ∀ {H : Heap} {locs : List Loc} {cells slots : Nat} {ls : Array Slot} (x1 : Option Nat) (x2 : Int32) (x3 : Int32) (x4 : Int32) (x5 : Int32) (M : zM), cells ≤ 0 → slots ≤ 0 → zS D M H locs → lv_has ls 7 [(0, .ref o), (1, va_rf x1), (2, .int x2), (3, .int x3), (4, .int x4), (5, .int x5)] → k6 x1 x2 x3 x4 x5 M → W p l e rm_X2_holds s m args below meth c H locs cells slots (vx_MQ below (zQ D zI post) (zX D (fun _ _ => False)) args s 0 0 (zA D)) (F0 m 6 ls [])) : ∀ {H : Heap} {locs : List Loc} {cells slots : Nat} {ls : Array Slot} (x1 : Option Nat) (x2 : Int32) (x3 : Int32) (x4 : Int32) (x5 : Int32) (M : zM), cells ≤ 0 → slots ≤ 0 → zS D M H locs → lv_has ls 7 [(0, .ref o), (1, va_rf x1), (2, .int x2), (3, .int x3), (4, .int x4), (5, .int x5)] → wp_X2_holds_L64 D post o k6 x1 x2 x3 x4 x5 M → W p l e rm_X2_holds s m args below meth c H locs cells slots (vx_MQ below (zQ D zI post) (zX D (fun _ _ => False)) args s 0 0 (zA D)) (F0 m 64 ls []) := by
  have hC := hG.1
  have hx := hC.x
  have hb := hC.b
  have hown := hC.o
  have hts := hC.ts
  have hlt := hG.2.2.2.2.2
  intro H locs cells slots ls x1 x2 x3 x4 x5 M hk hn hZ hl hw
  refine lv_iinc (v := (x5 + 1)) (lv' := [(5, .int (x5 + 1)), (0, .ref o), (1, va_rf x1), (2, .int x2), (3, .int x3), (4, .int x4)]) hx hb dX2_holds_64 hl (k := 5) rfl rfl (by decide) rfl (fun ls hl1 => ?_)
  replace hl := hl1
  clear hl1
  refine lv_goto (tgt := 6) hx hb dX2_holds_67 (by decide) ?_
  exact hk6 _ _ _ _ _ _ hk hn hZ (lv_sub hl [1, 2, 3, 4, 5, 0] rfl) hw
def wp_X2_holds_L6 (D : zD) (post : Int32 → zM → Prop) (o : Nat) : Nat → Option Nat → Int32 → Int32 → Int32 → Int32 → zM → Prop
  | 0 => fun _ _ _ _ _ _ => False
  | f + 1 => fun x1 x2 x3 x4 x5 M =>
    (zgRm M o [(2, 0), (4, 0), (5, 0), (6, 0)] fun g1 => ((zd g1 fun b2 => (zis M b2 [26] ∧ wp_J3_size D (fun r3 M => ((r3 ≤ x5 → (narrow .boolean (.int x4) = .int x4 ∧ post x4 M)) ∧ (¬ r3 ≤ x5 → (zgRm M o [(2, 0), (4, 0), (5, 0), (6, 0)] fun g6 => ((zd g6 fun b7 => (zis M b7 [26] ∧ wp_J3_get D (fun r8 M => ((∀ w, r8 = some w → zis M w [3]) ∧ ((zd r8 fun b11 => zgI M b11 3 0 fun g12 => ((¬ g12 = x2 → wp_X2_holds_L64 D post o (wp_X2_holds_L6 D post o f) x1 x2 x3 x4 x5 M) ∧ (g12 = x2 → (zgI M b11 3 1 fun g13 => ((¬ g13 = x3 → wp_X2_holds_L64 D post o (wp_X2_holds_L6 D post o f) x1 x2 x3 x4 x5 M) ∧ (g13 = x3 → ((zis M b11 [3] ∧ wp_X4_holds D (fun r14 M => ((¬ r14 = 0 → wp_X2_holds_L64 D post o (wp_X2_holds_L6 D post o f) x1 x2 x3 (1 : Int32) x5 M) ∧ (r14 = 0 → (narrow .boolean (.int (0 : Int32)) = .int (0 : Int32) ∧ post (0 : Int32) M)))) b11 x1 M))))))))))) b7 x5 M))))))) b2 M))))
set_option maxHeartbeats 4000000 in
set_option maxRecDepth 100000 in
theorem wk_X2_holds_L6 {p : Program} {l : Launch} {e : Env} {s : State} {m : MethodId} {args : Array Value} {below : List Frame} {meth : Method} {c : Code} {D : zD} {post : Int32 → zM → Prop} {o : Nat} (hG : zGx p l s m args meth c cX2_holds 7 "PluralBranches$Language" D (some .boolean) "holds" []) : ∀ (f : Nat), ∀ {H : Heap} {locs : List Loc} {cells slots : Nat} {ls : Array Slot} (x1 : Option Nat) (x2 : Int32) (x3 : Int32) (x4 : Int32) (x5 : Int32) (M : zM), cells ≤ 0 → slots ≤ 0 → zS D M H locs → lv_has ls 7 [(0, .ref o), (1, va_rf x1), (2, .int x2), (3, .int x3), (4, .int x4), (5, .int x5)] → wp_X2_holds_L6 D post o f x1 x2 x3 x4 x5 M → W p l e rm_X2_holds s m args below meth c H locs cells slots (vx_MQ below (zQ D zI post) (zX D (fun _ _ => False)) args s 0 0 (zA D)) (F0 m 6 ls []) := by
  have hC := hG.1
  have hx := hC.x
  have hb := hC.b
  have hown := hC.o
  have hts := hC.ts
  have hlt := hG.2.2.2.2.2
  intro f
  induction f with
  | zero =>
    intro H locs cells slots ls x1 x2 x3 x4 x5 M hk hn hZ hl hw
    exact absurd hw (fun h => h)
  | succ f ih =>
    intro H locs cells slots ls x1 x2 x3 x4 x5 M hk hn hZ hl hw
    refine lv_iload hx hb dX2_holds_6 (lv_at hl 5 rfl) ?_
    refine lv_aload_n hx hb dX2_holds_8 rfl (lv_at hl 0 rfl) ?_
    obtain ⟨q0, fs0, g21, hL0, hM0, hx0, hw⟩ := hw
    refine z_getm hC hZ hM0 (L := [(2, 0), (4, 0), (5, 0), (6, 0)]) (ref := "PluralBranches$Language") (index := 12) (zal (⟨_, _, _, _, zc2, by decide, q288, (fun _ h9 => h9)⟩) (zal (⟨_, _, _, _, zc4, by decide, q288, (fun _ h9 => h9)⟩) (zal (⟨_, _, _, _, zc5, by decide, q288, (fun _ h9 => h9)⟩) (zal (⟨_, _, _, _, zc6, by decide, q288, (fun _ h9 => h9)⟩) (za0))))) hL0 hx0 dX2_holds_9 ?_
    obtain ⟨b22, hr0, hw⟩ := hw
    subst hr0
    obtain ⟨⟨ci0, fs0, hci0, hM0⟩, hw⟩ := hw
    obtain rfl : ci0 = 26 := List.mem_singleton.mp hci0
    refine z_callI hZ (vx_runV (As := []) (rest := [.int x5]) hC.fix (w_J3_size hlt hw) (cwV 0 hts (lw_V q463 q464 q465 q74 q466) rfl rfl rfl ⟨rfl, dd_J3_size⟩ ⟨Nat.le_of_ble_eq_true rfl, Nat.le_of_ble_eq_true rfl⟩) (z_preV hC hZ hM0 zc26) rfl rfl hl.1 rfl (lv_room (Nat.le_trans (zrm1 rfl zrm0) (Nat.le_of_ble_eq_true rfl))) dX2_holds_12 ⟨hk, hn⟩) (fun r23 M H locs hw1 hZ => ?_) (fun q M H locs ci fs E T9 N9 hw hZ hc1 hM1 hb1 => False.elim hw)
    replace hw := hw1
    clear hw1
    refine W.cs (cells' := cells) (slots' := slots) rfl rfl ?_
    refine lv_icmp_ge (tgt := 70) hx hb dX2_holds_15 (by decide) (fun c40 => ?_) (fun c40 => ?_)
    · replace hw := hw.1 c40
      refine lv_iload hx hb dX2_holds_70 (lv_at hl 4 rfl) ?_
      exact z_zret hG hZ hk hn hw.1 hw.2 dX2_holds_72
    · replace hw := hw.2 c40
      refine lv_aload_n hx hb dX2_holds_18 rfl (lv_at hl 0 rfl) ?_
      obtain ⟨q0, fs0, g26, hL0, hM0, hx0, hw⟩ := hw
      refine z_getm hC hZ hM0 (L := [(2, 0), (4, 0), (5, 0), (6, 0)]) (ref := "PluralBranches$Language") (index := 12) (zal (⟨_, _, _, _, zc2, by decide, q288, (fun _ h9 => h9)⟩) (zal (⟨_, _, _, _, zc4, by decide, q288, (fun _ h9 => h9)⟩) (zal (⟨_, _, _, _, zc5, by decide, q288, (fun _ h9 => h9)⟩) (zal (⟨_, _, _, _, zc6, by decide, q288, (fun _ h9 => h9)⟩) (za0))))) hL0 hx0 dX2_holds_19 ?_
      refine lv_iload hx hb dX2_holds_22 (lv_at hl 5 rfl) ?_
      obtain ⟨b27, hr0, hw⟩ := hw
      subst hr0
      obtain ⟨⟨ci0, fs0, hci0, hM0⟩, hw⟩ := hw
      obtain rfl : ci0 = 26 := List.mem_singleton.mp hci0
      refine z_callR hZ (vx_runV (As := [.int x5]) (rest := []) hC.fix (w_J3_get hlt hw) (cwV 1 hts (lw_V q467 q468 q469 q74 q470) rfl rfl rfl ⟨rfl, dd_J3_get⟩ ⟨Nat.le_of_ble_eq_true rfl, Nat.le_of_ble_eq_true rfl⟩) (z_preV hC hZ hM0 zc26) rfl rfl hl.1 rfl (lv_room (Nat.zero_le _)) dX2_holds_24 ⟨hk, hn⟩) (fun r28 M H locs hw1 hZ => ?_) (fun q M H locs ci fs E T9 N9 hw hZ hc1 hM1 hb1 => False.elim hw)
      replace hw := hw1
      clear hw1
      refine W.cs (cells' := cells) (slots' := slots) rfl rfl ?_
      obtain ⟨hc0, hw⟩ := hw
      refine z_castO (r := r28) hC hZ hc0 (zal ⟨_, _, _, _, zc3, (Or.inl rfl)⟩ (za0)) q306 dX2_holds_27 ?_
      refine z_astore (i := 6) (lv' := [(6, va_rf r28), (0, .ref o), (1, va_rf x1), (2, .int x2), (3, .int x3), (4, .int x4), (5, .int x5)]) hC dX2_holds_30 hl (by decide) rfl (fun ls hl1 => ?_)
      replace hl := hl1
      clear hl1
      refine z_aload hC dX2_holds_32 (lv_at hl 0 rfl) ?_
      obtain ⟨b31, hr0, hw⟩ := hw
      subst hr0
      obtain ⟨fs0, g32, hM0, hx0, hw⟩ := hw
      refine z_getN hC hZ hM0 zc3 0 (by decide) q313 (fun _ h9 => h9) hx0 dX2_holds_34 ?_
      refine lv_iload_n hx hb dX2_holds_37 rfl (lv_at hl 3 rfl) ?_
      refine lv_icmp_ne (tgt := 64) hx hb dX2_holds_38 (by decide) (fun c39 => ?_) (fun c39 => ?_)
      · replace hw := hw.1 c39
        exact wk_X2_holds_L64 hG _ (fun {_ _ _ _ _} _z0 _z1 _z2 _z3 _z4 _z5 h1 h2 h3 h4 h5 => ih _z0 _z1 _z2 _z3 _z4 _z5 h1 h2 h3 h4 h5) _ _ _ _ _ _ hk hn hZ (lv_sub hl [1, 2, 3, 4, 5, 6] rfl) hw
      · replace hw := hw.2 c39
        refine lv_aload hx hb dX2_holds_41 (lv_at hl 0 rfl) ?_
        obtain ⟨fs0, g33, hM0, hx0, hw⟩ := hw
        refine z_getN hC hZ hM0 zc3 1 (by decide) q315 (fun _ h9 => h9) hx0 dX2_holds_43 ?_
        refine lv_iload_n hx hb dX2_holds_46 rfl (lv_at hl 4 rfl) ?_
        refine lv_icmp_ne (tgt := 64) hx hb dX2_holds_47 (by decide) (fun c38 => ?_) (fun c38 => ?_)
        · replace hw := hw.1 c38
          exact wk_X2_holds_L64 hG _ (fun {_ _ _ _ _} _z0 _z1 _z2 _z3 _z4 _z5 h1 h2 h3 h4 h5 => ih _z0 _z1 _z2 _z3 _z4 _z5 h1 h2 h3 h4 h5) _ _ _ _ _ _ hk hn hZ (lv_sub hl [1, 2, 3, 4, 5, 6] rfl) hw
        · replace hw := hw.2 c38
          refine lv_iconst (v := 1) hx hb dX2_holds_50 (by decide) ?_
          refine lv_istore (i := 4) (lv' := [(4, .int (1 : Int32)), (6, .ref b31), (0, .ref o), (1, va_rf x1), (2, .int x2), (3, .int x3), (5, .int x5)]) hx hb dX2_holds_51 hl (by decide) rfl (fun ls hl1 => ?_)
          replace hl := hl1
          clear hl1
          refine lv_aload hx hb dX2_holds_53 (lv_at hl 1 rfl) ?_
          refine z_aload_n hC dX2_holds_55 rfl (lv_at hl 3 rfl) ?_
          obtain ⟨⟨ci0, fs0, hci0, hM0⟩, hw⟩ := hw
          obtain rfl : ci0 = 3 := List.mem_singleton.mp hci0
          refine z_callI hZ (vx_runV (As := [va_rf x1]) (rest := []) hC.fix (w_X4_holds hlt hw) (cwV 1 hts (lw_V q481 q482 q483 q78 q484) rfl rfl rfl ⟨rfl, dd_X4_holds⟩ ⟨Nat.le_of_ble_eq_true rfl, Nat.le_of_ble_eq_true rfl⟩) (z_preV hC hZ hM0 zc3) rfl rfl hl.1 rfl (lv_room (Nat.zero_le _)) dX2_holds_56 ⟨hk, hn⟩) (fun r34 M H locs hw1 hZ => ?_) (fun q M H locs ci fs E T9 N9 hw hZ hc1 hM1 hb1 => False.elim hw)
          replace hw := hw1
          clear hw1
          refine W.cs (cells' := cells) (slots' := slots) rfl rfl ?_
          refine lv_if_ne (tgt := 64) hx hb dX2_holds_59 (by decide) (fun c37 => ?_) (fun c37 => ?_)
          · replace hw := hw.1 c37
            exact wk_X2_holds_L64 hG _ (fun {_ _ _ _ _} _z0 _z1 _z2 _z3 _z4 _z5 h1 h2 h3 h4 h5 => ih _z0 _z1 _z2 _z3 _z4 _z5 h1 h2 h3 h4 h5) _ _ _ _ _ _ hk hn hZ (lv_sub hl [2, 3, 4, 5, 0, 6] rfl) hw
          · replace hw := hw.2 c37
            refine lv_iconst (v := 0) hx hb dX2_holds_62 (by decide) ?_
            exact z_zret hG hZ hk hn hw.1 hw.2 dX2_holds_63
def wp_X2_holds (D : zD) (post : Int32 → zM → Prop) (o : Nat) (a0 : Option Nat) (a1 : Int32) (a2 : Int32) (M : zM) : Prop :=
    (∃ f, wp_X2_holds_L6 D post o f a0 a1 a2 (0 : Int32) (0 : Int32) M)
set_option maxHeartbeats 4000000 in
set_option maxRecDepth 100000 in
theorem w_X2_holds {l : Launch} {D : zD} {post : Int32 → zM → Prop} (hlt : l.stackTraces = false) {o : Nat} {a0 : Option Nat} {a1 : Int32} {a2 : Int32} {M : zM} (hw : wp_X2_holds D post o a0 a1 a2 M) : zMet l D yX2_holds (ws_ yX2_holds cX2_holds 7 (some .boolean)) rm_X2_holds 0 0 [.ref o, va_rf a0, .int a1, .int a2] M zI post (fun _ _ => False) := by
  unfold wp_X2_holds at hw
  have hlv : lv_args 0 [.ref o, va_rf a0, .int a1, .int a2] = [(0, .ref o), (1, va_rf a0), (2, .int a1), (3, .int a2)] := (zargs1 rfl (zargs1 (zcat _) (zargs1 rfl (zargs1 rfl rfl))))
  refine z_ofW hlt (by decide) (Nat.le_trans (zsl1 rfl (zsl1 (zcat _) (zsl1 rfl (zsl1 rfl (Nat.le_refl 0 : (lg_sl []).length ≤ 0))))) (Nat.le_of_ble_eq_true rfl)) hlv ?_
  intro p e s m args below meth c ls hG hZ hl
  have hC := hG.1
  have hx := hC.x
  have hb := hC.b
  have hown := hC.o
  have hts := hC.ts
  have hlt := hG.2.2.2.2.2
  obtain ⟨cells, hce⟩ : ∃ z : Nat, z = 0 := ⟨0, rfl⟩
  obtain ⟨slots, hsl⟩ : ∃ z : Nat, z = 0 := ⟨0, rfl⟩
  refine W.cs (cells' := cells) (slots' := slots) hce.symm hsl.symm ?_
  have hk : cells ≤ 0 := Nat.le_of_eq hce
  have hn : slots ≤ 0 := Nat.le_of_eq hsl
  clear hce hsl
  refine lv_iconst (v := 0) hx hb dX2_holds_0 (by decide) ?_
  refine lv_istore (i := 4) (lv' := [(4, .int (0 : Int32)), (0, .ref o), (1, va_rf a0), (2, .int a1), (3, .int a2)]) hx hb dX2_holds_1 hl (by decide) rfl (fun ls hl1 => ?_)
  replace hl := hl1
  clear hl1
  refine lv_iconst (v := 0) hx hb dX2_holds_3 (by decide) ?_
  refine lv_istore (i := 5) (lv' := [(5, .int (0 : Int32)), (4, .int (0 : Int32)), (0, .ref o), (1, va_rf a0), (2, .int a1), (3, .int a2)]) hx hb dX2_holds_4 hl (by decide) rfl (fun ls hl1 => ?_)
  replace hl := hl1
  clear hl1
  obtain ⟨f1, hw⟩ := hw
  exact wk_X2_holds_L6 hG f1 _ _ _ _ _ _ hk hn hZ (lv_sub hl [2, 3, 4, 5, 1, 0] rfl) hw
abbrev rm_X2_category : Room := { frames := 5, cells := 0, slots := 0, locals := 154 }
def wp_X2_category_L27 (D : zD) (post : Int32 → zM → Prop) (o : Nat) (x2 : Int32) (M : zM) : Prop :=
    post x2 M
set_option maxHeartbeats 4000000 in
set_option maxRecDepth 100000 in
theorem wk_X2_category_L27 {p : Program} {l : Launch} {e : Env} {s : State} {m : MethodId} {args : Array Value} {below : List Frame} {meth : Method} {c : Code} {D : zD} {post : Int32 → zM → Prop} {o : Nat} (hG : zGx p l s m args meth c cX2_category 3 "PluralBranches$Language" D (some .int) "category" []) : ∀ {H : Heap} {locs : List Loc} {cells slots : Nat} {ls : Array Slot} (x2 : Int32) (M : zM), cells ≤ 0 → slots ≤ 0 → zS D M H locs → lv_has ls 3 [(2, .int x2)] → wp_X2_category_L27 D post o x2 M → W p l e rm_X2_category s m args below meth c H locs cells slots (vx_MQ below (zQ D zI post) (zX D (fun _ _ => False)) args s 0 0 (zA D)) (F0 m 27 ls []) := by
  have hC := hG.1
  have hx := hC.x
  have hb := hC.b
  have hown := hC.o
  have hts := hC.ts
  have hlt := hG.2.2.2.2.2
  intro H locs cells slots ls x2 M hk hn hZ hl hw
  refine lv_iload_n hx hb dX2_category_27 rfl (lv_at hl 0 rfl) ?_
  exact z_iret hG hZ hk hn hw dX2_category_28
def wp_X2_category_L2 (D : zD) (post : Int32 → zM → Prop) (o : Nat) : Nat → Option Nat → Int32 → zM → Prop
  | 0 => fun _ _ _ => False
  | f + 1 => fun x1 x2 M =>
    (((5 : Int32) ≤ x2 → post (5 : Int32) M) ∧ (¬ (5 : Int32) ≤ x2 → ((zis M o [2, 4, 5, 6] ∧ wp_X2_holds D (fun r1 M => ((¬ r1 = 0 → wp_X2_category_L27 D post o x2 M) ∧ (r1 = 0 → ((zis M o [2, 4, 5, 6] ∧ wp_X2_holds D (fun r4 M => ((r4 = 0 → wp_X2_category_L2 D post o f x1 (x2 + 1) M) ∧ (¬ r4 = 0 → wp_X2_category_L27 D post o x2 M))) o x1 x2 (1 : Int32) M))))) o x1 x2 (0 : Int32) M))))
set_option maxHeartbeats 4000000 in
set_option maxRecDepth 100000 in
theorem wk_X2_category_L2 {p : Program} {l : Launch} {e : Env} {s : State} {m : MethodId} {args : Array Value} {below : List Frame} {meth : Method} {c : Code} {D : zD} {post : Int32 → zM → Prop} {o : Nat} (hG : zGx p l s m args meth c cX2_category 3 "PluralBranches$Language" D (some .int) "category" []) : ∀ (f : Nat), ∀ {H : Heap} {locs : List Loc} {cells slots : Nat} {ls : Array Slot} (x1 : Option Nat) (x2 : Int32) (M : zM), cells ≤ 0 → slots ≤ 0 → zS D M H locs → lv_has ls 3 [(0, .ref o), (1, va_rf x1), (2, .int x2)] → wp_X2_category_L2 D post o f x1 x2 M → W p l e rm_X2_category s m args below meth c H locs cells slots (vx_MQ below (zQ D zI post) (zX D (fun _ _ => False)) args s 0 0 (zA D)) (F0 m 2 ls []) := by
  have hC := hG.1
  have hx := hC.x
  have hb := hC.b
  have hown := hC.o
  have hts := hC.ts
  have hlt := hG.2.2.2.2.2
  intro f
  induction f with
  | zero =>
    intro H locs cells slots ls x1 x2 M hk hn hZ hl hw
    exact absurd hw (fun h => h)
  | succ f ih =>
    intro H locs cells slots ls x1 x2 M hk hn hZ hl hw
    refine lv_iload_n hx hb dX2_category_2 rfl (lv_at hl 2 rfl) ?_
    refine lv_iconst (v := 5) hx hb dX2_category_3 (by decide) ?_
    refine lv_icmp_ge (tgt := 35) hx hb dX2_category_4 (by decide) (fun c18 => ?_) (fun c18 => ?_)
    · replace hw := hw.1 c18
      refine lv_iconst (v := 5) hx hb dX2_category_35 (by decide) ?_
      exact z_iret hG hZ hk hn hw dX2_category_36
    · replace hw := hw.2 c18
      refine lv_aload_n hx hb dX2_category_7 rfl (lv_at hl 0 rfl) ?_
      refine z_aload_n hC dX2_category_8 rfl (lv_at hl 1 rfl) ?_
      refine lv_iload_n hx hb dX2_category_9 rfl (lv_at hl 2 rfl) ?_
      refine lv_iconst (v := 0) hx hb dX2_category_10 (by decide) ?_
      obtain ⟨⟨ci0, fs0, hci0, hM0⟩, hw⟩ := hw
      obtain ⟨C0, T0, N0, ty0, hc0, hin0⟩ : ∃ (C0 : String) (T0 : u_T) (N0 : Nat) (ty0 : Nat → FieldType), zCls ci0 C0 T0 N0 ty0 ∧ C0 ∈ zLg := (zal ⟨_, _, _, _, zc2, (by decide)⟩ (zal ⟨_, _, _, _, zc4, (by decide)⟩ (zal ⟨_, _, _, _, zc5, (by decide)⟩ (zal ⟨_, _, _, _, zc6, (by decide)⟩ (za0)))) : ∀ ci ∈ [2, 4, 5, 6], ∃ (C0 : String) (T0 : u_T) (N0 : Nat) (ty0 : Nat → FieldType), zCls ci C0 T0 N0 ty0 ∧ C0 ∈ zLg) ci0 hci0
      refine z_callI hZ (vx_runV (As := [va_rf x1, .int x2, .int (0 : Int32)]) (rest := []) hC.fix (w_X2_holds hlt hw) ⟨callB_of 3 hts (lw_meth q462) rfl rfl rfl (hts _ q70) (hts _ q458) dd_X2_holds ⟨Nat.le_of_ble_eq_true rfl, Nat.le_of_ble_eq_true rfl⟩, hts _ q460, va_any rfl (hC.K.2.2.2.2.2.2.2.2.1.2.2.2 _ hin0)⟩ (z_preV hC hZ hM0 hc0) rfl rfl hl.1 rfl (lv_room (Nat.zero_le _)) dX2_category_11 ⟨hk, hn⟩) (fun r10 M H locs hw1 hZ => ?_) (fun q M H locs ci fs E T9 N9 hw hZ hc1 hM1 hb1 => False.elim hw)
      replace hw := hw1
      clear hw1
      refine W.cs (cells' := cells) (slots' := slots) rfl rfl ?_
      refine lv_if_ne (tgt := 27) hx hb dX2_category_14 (by decide) (fun c17 => ?_) (fun c17 => ?_)
      · replace hw := hw.1 c17
        exact wk_X2_category_L27 hG _ _ hk hn hZ (lv_sub hl [2] rfl) hw
      · replace hw := hw.2 c17
        refine lv_aload_n hx hb dX2_category_17 rfl (lv_at hl 0 rfl) ?_
        refine z_aload_n hC dX2_category_18 rfl (lv_at hl 1 rfl) ?_
        refine lv_iload_n hx hb dX2_category_19 rfl (lv_at hl 2 rfl) ?_
        refine lv_iconst (v := 1) hx hb dX2_category_20 (by decide) ?_
        obtain ⟨⟨ci0, fs0, hci0, hM0⟩, hw⟩ := hw
        obtain ⟨C0, T0, N0, ty0, hc0, hin0⟩ : ∃ (C0 : String) (T0 : u_T) (N0 : Nat) (ty0 : Nat → FieldType), zCls ci0 C0 T0 N0 ty0 ∧ C0 ∈ zLg := (zal ⟨_, _, _, _, zc2, (by decide)⟩ (zal ⟨_, _, _, _, zc4, (by decide)⟩ (zal ⟨_, _, _, _, zc5, (by decide)⟩ (zal ⟨_, _, _, _, zc6, (by decide)⟩ (za0)))) : ∀ ci ∈ [2, 4, 5, 6], ∃ (C0 : String) (T0 : u_T) (N0 : Nat) (ty0 : Nat → FieldType), zCls ci C0 T0 N0 ty0 ∧ C0 ∈ zLg) ci0 hci0
        refine z_callI hZ (vx_runV (As := [va_rf x1, .int x2, .int (1 : Int32)]) (rest := []) hC.fix (w_X2_holds hlt hw) ⟨callB_of 3 hts (lw_meth q462) rfl rfl rfl (hts _ q70) (hts _ q458) dd_X2_holds ⟨Nat.le_of_ble_eq_true rfl, Nat.le_of_ble_eq_true rfl⟩, hts _ q460, va_any rfl (hC.K.2.2.2.2.2.2.2.2.1.2.2.2 _ hin0)⟩ (z_preV hC hZ hM0 hc0) rfl rfl hl.1 rfl (lv_room (Nat.zero_le _)) dX2_category_21 ⟨hk, hn⟩) (fun r13 M H locs hw1 hZ => ?_) (fun q M H locs ci fs E T9 N9 hw hZ hc1 hM1 hb1 => False.elim hw)
        replace hw := hw1
        clear hw1
        refine W.cs (cells' := cells) (slots' := slots) rfl rfl ?_
        refine lv_if_eq (tgt := 29) hx hb dX2_category_24 (by decide) (fun c16 => ?_) (fun c16 => ?_)
        · replace hw := hw.1 c16
          refine lv_iinc (v := (x2 + 1)) (lv' := [(2, .int (x2 + 1)), (0, .ref o), (1, va_rf x1)]) hx hb dX2_category_29 hl (k := 2) rfl rfl (by decide) (zfc rfl (zfk rfl (zfk (zfa rfl) (zfd rfl rfl)))) (fun ls hl1 => ?_)
          replace hl := hl1
          clear hl1
          refine lv_goto (tgt := 2) hx hb dX2_category_32 (by decide) ?_
          exact ih _ _ _ hk hn hZ (lv_sub hl [1, 2, 0] rfl) hw
        · replace hw := hw.2 c16
          exact wk_X2_category_L27 hG _ _ hk hn hZ (lv_sub hl [2] rfl) hw
def wp_X2_category (D : zD) (post : Int32 → zM → Prop) (o : Nat) (a0 : Option Nat) (M : zM) : Prop :=
    (∃ f, wp_X2_category_L2 D post o f a0 (0 : Int32) M)
set_option maxHeartbeats 4000000 in
set_option maxRecDepth 100000 in
theorem w_X2_category {l : Launch} {D : zD} {post : Int32 → zM → Prop} (hlt : l.stackTraces = false) {o : Nat} {a0 : Option Nat} {M : zM} (hw : wp_X2_category D post o a0 M) : zMet l D yX2_category (ws_ yX2_category cX2_category 3 (some .int)) rm_X2_category 0 0 [.ref o, va_rf a0] M zI post (fun _ _ => False) := by
  unfold wp_X2_category at hw
  have hlv : lv_args 0 [.ref o, va_rf a0] = [(0, .ref o), (1, va_rf a0)] := (zargs1 rfl (zargs1 (zcat _) rfl))
  refine z_ofW hlt (by decide) (Nat.le_trans (zsl1 rfl (zsl1 (zcat _) (Nat.le_refl 0 : (lg_sl []).length ≤ 0))) (Nat.le_of_ble_eq_true rfl)) hlv ?_
  intro p e s m args below meth c ls hG hZ hl
  have hC := hG.1
  have hx := hC.x
  have hb := hC.b
  have hown := hC.o
  have hts := hC.ts
  have hlt := hG.2.2.2.2.2
  obtain ⟨cells, hce⟩ : ∃ z : Nat, z = 0 := ⟨0, rfl⟩
  obtain ⟨slots, hsl⟩ : ∃ z : Nat, z = 0 := ⟨0, rfl⟩
  refine W.cs (cells' := cells) (slots' := slots) hce.symm hsl.symm ?_
  have hk : cells ≤ 0 := Nat.le_of_eq hce
  have hn : slots ≤ 0 := Nat.le_of_eq hsl
  clear hce hsl
  refine lv_iconst (v := 0) hx hb dX2_category_0 (by decide) ?_
  refine lv_istore_n (i := 2) (lv' := [(2, .int (0 : Int32)), (0, .ref o), (1, va_rf a0)]) hx hb dX2_category_1 rfl hl (by decide) (zfc rfl (zfk rfl (zfk (zfa rfl) rfl))) (fun ls hl1 => ?_)
  replace hl := hl1
  clear hl1
  obtain ⟨f1, hw⟩ := hw
  exact wk_X2_category_L2 hG f1 _ _ _ hk hn hZ (lv_sub hl [1, 2, 0] rfl) hw
abbrev rm_X20_of : Room := { frames := 4, cells := 0, slots := 0, locals := 128 }
def wp_X20_of_L2 (D : zD) (post : Int32 → zM → Prop) (o : Nat) : Nat → Int32 → Int32 → zM → Prop
  | 0 => fun _ _ _ => False
  | f + 1 => fun x1 x2 M =>
    (zgRm M o [(18, 0), (19, 0)] fun g1 => ((zd g1 fun b2 => (zis M b2 [26] ∧ wp_J3_size D (fun r3 M => ((r3 ≤ x2 → post (-2 : Int32) M) ∧ (¬ r3 ≤ x2 → (zgRm M o [(18, 0), (19, 0)] fun g6 => ((zd g6 fun b7 => (zis M b7 [26] ∧ wp_J3_get D (fun r8 M => ((∀ w, r8 = some w → zis M w [20]) ∧ ((zd r8 fun b11 => zgI M b11 20 0 fun g12 => ((¬ g12 = x1 → wp_X20_of_L2 D post o f x1 (x2 + 1) M) ∧ (g12 = x1 → post x2 M)))))) b7 x2 M))))))) b2 M))))
set_option maxHeartbeats 4000000 in
set_option maxRecDepth 100000 in
theorem wk_X20_of_L2 {p : Program} {l : Launch} {e : Env} {s : State} {m : MethodId} {args : Array Value} {below : List Frame} {meth : Method} {c : Code} {D : zD} {post : Int32 → zM → Prop} {o : Nat} (hG : zGx p l s m args meth c cX20_of 3 "PluralBranches$Choice" D (some .int) "of" []) : ∀ (f : Nat), ∀ {H : Heap} {locs : List Loc} {cells slots : Nat} {ls : Array Slot} (x1 : Int32) (x2 : Int32) (M : zM), cells ≤ 0 → slots ≤ 0 → zS D M H locs → lv_has ls 3 [(0, .ref o), (1, .int x1), (2, .int x2)] → wp_X20_of_L2 D post o f x1 x2 M → W p l e rm_X20_of s m args below meth c H locs cells slots (vx_MQ below (zQ D zI post) (zX D (fun _ _ => False)) args s 0 0 (zA D)) (F0 m 2 ls []) := by
  have hC := hG.1
  have hx := hC.x
  have hb := hC.b
  have hown := hC.o
  have hts := hC.ts
  have hlt := hG.2.2.2.2.2
  intro f
  induction f with
  | zero =>
    intro H locs cells slots ls x1 x2 M hk hn hZ hl hw
    exact absurd hw (fun h => h)
  | succ f ih =>
    intro H locs cells slots ls x1 x2 M hk hn hZ hl hw
    refine lv_iload_n hx hb dX20_of_2 rfl (lv_at hl 2 rfl) ?_
    refine lv_aload_n hx hb dX20_of_3 rfl (lv_at hl 0 rfl) ?_
    obtain ⟨q0, fs0, g15, hL0, hM0, hx0, hw⟩ := hw
    refine z_getm hC hZ hM0 (L := [(18, 0), (19, 0)]) (ref := "PluralBranches$Choice") (index := 14) (zal (⟨_, _, _, _, zc18, by decide, q821, (fun _ h9 => h9)⟩) (zal (⟨_, _, _, _, zc19, by decide, q821, (fun _ h9 => h9)⟩) (za0))) hL0 hx0 dX20_of_4 ?_
    obtain ⟨b16, hr0, hw⟩ := hw
    subst hr0
    obtain ⟨⟨ci0, fs0, hci0, hM0⟩, hw⟩ := hw
    obtain rfl : ci0 = 26 := List.mem_singleton.mp hci0
    refine z_callI hZ (vx_runV (As := []) (rest := [.int x2]) hC.fix (w_J3_size hlt hw) (cwV 0 hts (lw_V q960 q464 q465 q74 q466) rfl rfl rfl ⟨rfl, dd_J3_size⟩ ⟨Nat.le_of_ble_eq_true rfl, Nat.le_of_ble_eq_true rfl⟩) (z_preV hC hZ hM0 zc26) rfl rfl hl.1 rfl (lv_room (Nat.le_trans (zrm1 rfl zrm0) (Nat.le_of_ble_eq_true rfl))) dX20_of_7 ⟨hk, hn⟩) (fun r17 M H locs hw1 hZ => ?_) (fun q M H locs ci fs E T9 N9 hw hZ hc1 hM1 hb1 => False.elim hw)
    replace hw := hw1
    clear hw1
    refine W.cs (cells' := cells) (slots' := slots) rfl rfl ?_
    refine lv_icmp_ge (tgt := 39) hx hb dX20_of_10 (by decide) (fun c28 => ?_) (fun c28 => ?_)
    · replace hw := hw.1 c28
      refine lv_bipush (v := (-2)) hx hb dX20_of_39 (by decide) ?_
      exact z_iret hG hZ hk hn hw dX20_of_41
    · replace hw := hw.2 c28
      refine lv_aload_n hx hb dX20_of_13 rfl (lv_at hl 0 rfl) ?_
      obtain ⟨q0, fs0, g20, hL0, hM0, hx0, hw⟩ := hw
      refine z_getm hC hZ hM0 (L := [(18, 0), (19, 0)]) (ref := "PluralBranches$Choice") (index := 14) (zal (⟨_, _, _, _, zc18, by decide, q821, (fun _ h9 => h9)⟩) (zal (⟨_, _, _, _, zc19, by decide, q821, (fun _ h9 => h9)⟩) (za0))) hL0 hx0 dX20_of_14 ?_
      refine lv_iload_n hx hb dX20_of_17 rfl (lv_at hl 2 rfl) ?_
      obtain ⟨b21, hr0, hw⟩ := hw
      subst hr0
      obtain ⟨⟨ci0, fs0, hci0, hM0⟩, hw⟩ := hw
      obtain rfl : ci0 = 26 := List.mem_singleton.mp hci0
      refine z_callR hZ (vx_runV (As := [.int x2]) (rest := []) hC.fix (w_J3_get hlt hw) (cwV 1 hts (lw_V q961 q468 q469 q74 q470) rfl rfl rfl ⟨rfl, dd_J3_get⟩ ⟨Nat.le_of_ble_eq_true rfl, Nat.le_of_ble_eq_true rfl⟩) (z_preV hC hZ hM0 zc26) rfl rfl hl.1 rfl (lv_room (Nat.zero_le _)) dX20_of_18 ⟨hk, hn⟩) (fun r22 M H locs hw1 hZ => ?_) (fun q M H locs ci fs E T9 N9 hw hZ hc1 hM1 hb1 => False.elim hw)
      replace hw := hw1
      clear hw1
      refine W.cs (cells' := cells) (slots' := slots) rfl rfl ?_
      obtain ⟨hc0, hw⟩ := hw
      refine z_castO (r := r22) hC hZ hc0 (zal ⟨_, _, _, _, zc20, (Or.inl rfl)⟩ (za0)) q962 dX20_of_21 ?_
      obtain ⟨b25, hr0, hw⟩ := hw
      subst hr0
      obtain ⟨fs0, g26, hM0, hx0, hw⟩ := hw
      refine z_getN hC hZ hM0 zc20 0 (by decide) q970 (fun _ h9 => h9) hx0 dX20_of_24 ?_
      refine lv_iload_n hx hb dX20_of_27 rfl (lv_at hl 1 rfl) ?_
      refine lv_icmp_ne (tgt := 33) hx hb dX20_of_28 (by decide) (fun c27 => ?_) (fun c27 => ?_)
      · replace hw := hw.1 c27
        refine lv_iinc (v := (x2 + 1)) (lv' := [(2, .int (x2 + 1)), (0, .ref o), (1, .int x1)]) hx hb dX20_of_33 hl (k := 2) rfl rfl (by decide) rfl (fun ls hl1 => ?_)
        replace hl := hl1
        clear hl1
        refine lv_goto (tgt := 2) hx hb dX20_of_36 (by decide) ?_
        exact ih _ _ _ hk hn hZ (lv_sub hl [1, 2, 0] rfl) hw
      · replace hw := hw.2 c27
        refine lv_iload_n hx hb dX20_of_31 rfl (lv_at hl 2 rfl) ?_
        exact z_iret hG hZ hk hn hw dX20_of_32
def wp_X20_of (D : zD) (post : Int32 → zM → Prop) (o : Nat) (a0 : Int32) (M : zM) : Prop :=
    (∃ f, wp_X20_of_L2 D post o f a0 (0 : Int32) M)
set_option maxHeartbeats 4000000 in
set_option maxRecDepth 100000 in
theorem w_X20_of {l : Launch} {D : zD} {post : Int32 → zM → Prop} (hlt : l.stackTraces = false) {o : Nat} {a0 : Int32} {M : zM} (hw : wp_X20_of D post o a0 M) : zMet l D yX20_of (ws_ yX20_of cX20_of 3 (some .int)) rm_X20_of 0 0 [.ref o, .int a0] M zI post (fun _ _ => False) := by
  unfold wp_X20_of at hw
  have hlv : lv_args 0 [.ref o, .int a0] = [(0, .ref o), (1, .int a0)] := (zargs1 rfl (zargs1 rfl rfl))
  refine z_ofW hlt (by decide) (Nat.le_trans (zsl1 rfl (zsl1 rfl (Nat.le_refl 0 : (lg_sl []).length ≤ 0))) (Nat.le_of_ble_eq_true rfl)) hlv ?_
  intro p e s m args below meth c ls hG hZ hl
  have hC := hG.1
  have hx := hC.x
  have hb := hC.b
  have hown := hC.o
  have hts := hC.ts
  have hlt := hG.2.2.2.2.2
  obtain ⟨cells, hce⟩ : ∃ z : Nat, z = 0 := ⟨0, rfl⟩
  obtain ⟨slots, hsl⟩ : ∃ z : Nat, z = 0 := ⟨0, rfl⟩
  refine W.cs (cells' := cells) (slots' := slots) hce.symm hsl.symm ?_
  have hk : cells ≤ 0 := Nat.le_of_eq hce
  have hn : slots ≤ 0 := Nat.le_of_eq hsl
  clear hce hsl
  refine lv_iconst (v := 0) hx hb dX20_of_0 (by decide) ?_
  refine lv_istore_n (i := 2) (lv' := [(2, .int (0 : Int32)), (0, .ref o), (1, .int a0)]) hx hb dX20_of_1 rfl hl (by decide) rfl (fun ls hl1 => ?_)
  replace hl := hl1
  clear hl1
  obtain ⟨f1, hw⟩ := hw
  exact wk_X20_of_L2 hG f1 _ _ _ hk hn hZ (lv_sub hl [1, 2, 0] rfl) hw
abbrev rm_X21_other : Room := { frames := 1, cells := 0, slots := 0, locals := 64 }
def wp_X21_other (D : zD) (post : Int32 → zM → Prop) (o : Nat) (M : zM) : Prop :=
    post (5 : Int32) M
set_option maxHeartbeats 4000000 in
set_option maxRecDepth 100000 in
theorem w_X21_other {l : Launch} {D : zD} {post : Int32 → zM → Prop} (hlt : l.stackTraces = false) {o : Nat} {M : zM} (hw : wp_X21_other D post o M) : zMet l D yX21_other (ws_ yX21_other cX21_other 1 (some .int)) rm_X21_other 0 0 [.ref o] M zI post (fun _ _ => False) := by
  unfold wp_X21_other at hw
  have hlv : lv_args 0 [.ref o] = [(0, .ref o)] := (zargs1 rfl rfl)
  refine z_ofW hlt (by decide) (Nat.le_trans (zsl1 rfl (Nat.le_refl 0 : (lg_sl []).length ≤ 0)) (Nat.le_of_ble_eq_true rfl)) hlv ?_
  intro p e s m args below meth c ls hG hZ hl
  have hC := hG.1
  have hx := hC.x
  have hb := hC.b
  have hown := hC.o
  have hts := hC.ts
  have hlt := hG.2.2.2.2.2
  obtain ⟨cells, hce⟩ : ∃ z : Nat, z = 0 := ⟨0, rfl⟩
  obtain ⟨slots, hsl⟩ : ∃ z : Nat, z = 0 := ⟨0, rfl⟩
  refine W.cs (cells' := cells) (slots' := slots) hce.symm hsl.symm ?_
  have hk : cells ≤ 0 := Nat.le_of_eq hce
  have hn : slots ≤ 0 := Nat.le_of_eq hsl
  clear hce hsl
  refine lv_iconst (v := 5) hx hb dX21_other_0 (by decide) ?_
  exact z_iret hG hZ hk hn hw dX21_other_1
abbrev rm_X22_other : Room := { frames := 1, cells := 0, slots := 0, locals := 64 }
def wp_X22_other (D : zD) (post : Int32 → zM → Prop) (o : Nat) (M : zM) : Prop :=
    post (3 : Int32) M
set_option maxHeartbeats 4000000 in
set_option maxRecDepth 100000 in
theorem w_X22_other {l : Launch} {D : zD} {post : Int32 → zM → Prop} (hlt : l.stackTraces = false) {o : Nat} {M : zM} (hw : wp_X22_other D post o M) : zMet l D yX22_other (ws_ yX22_other cX22_other 1 (some .int)) rm_X22_other 0 0 [.ref o] M zI post (fun _ _ => False) := by
  unfold wp_X22_other at hw
  have hlv : lv_args 0 [.ref o] = [(0, .ref o)] := (zargs1 rfl rfl)
  refine z_ofW hlt (by decide) (Nat.le_trans (zsl1 rfl (Nat.le_refl 0 : (lg_sl []).length ≤ 0)) (Nat.le_of_ble_eq_true rfl)) hlv ?_
  intro p e s m args below meth c ls hG hZ hl
  have hC := hG.1
  have hx := hC.x
  have hb := hC.b
  have hown := hC.o
  have hts := hC.ts
  have hlt := hG.2.2.2.2.2
  obtain ⟨cells, hce⟩ : ∃ z : Nat, z = 0 := ⟨0, rfl⟩
  obtain ⟨slots, hsl⟩ : ∃ z : Nat, z = 0 := ⟨0, rfl⟩
  refine W.cs (cells' := cells) (slots' := slots) hce.symm hsl.symm ?_
  have hk : cells ≤ 0 := Nat.le_of_eq hce
  have hn : slots ≤ 0 := Nat.le_of_eq hsl
  clear hce hsl
  refine lv_iconst (v := 3) hx hb dX22_other_0 (by decide) ?_
  exact z_iret hG hZ hk hn hw dX22_other_1
abbrev rm_X20_orOther : Room := { frames := 5, cells := 0, slots := 0, locals := 150 }
def wp_X20_orOther_L24 (D : zD) (post : Int32 → zM → Prop) (o : Nat) (y0 : Int32) (M : zM) : Prop :=
    post y0 M
set_option maxHeartbeats 4000000 in
set_option maxRecDepth 100000 in
theorem wk_X20_orOther_L24 {p : Program} {l : Launch} {e : Env} {s : State} {m : MethodId} {args : Array Value} {below : List Frame} {meth : Method} {c : Code} {D : zD} {post : Int32 → zM → Prop} {o : Nat} (hG : zGx p l s m args meth c cX20_orOther 3 "PluralBranches$Choice" D (some .int) "orOther" []) : ∀ {H : Heap} {locs : List Loc} {cells slots : Nat} {ls : Array Slot} (y0 : Int32) (M : zM), cells ≤ 0 → slots ≤ 0 → zS D M H locs → lv_has ls 3 [] → wp_X20_orOther_L24 D post o y0 M → W p l e rm_X20_orOther s m args below meth c H locs cells slots (vx_MQ below (zQ D zI post) (zX D (fun _ _ => False)) args s 0 0 (zA D)) (F0 m 24 ls [.int y0]) := by
  have hC := hG.1
  have hx := hC.x
  have hb := hC.b
  have hown := hC.o
  have hts := hC.ts
  have hlt := hG.2.2.2.2.2
  intro H locs cells slots ls y0 M hk hn hZ hl hw
  exact z_iret hG hZ hk hn hw dX20_orOther_24
def wp_X20_orOther_L17 (D : zD) (post : Int32 → zM → Prop) (o : Nat) (y0 : Option Nat) (y1 : Int32) (M : zM) : Prop :=
    ((zd y0 fun b1 => (zis M b1 [18, 19] ∧ wp_X20_of D (fun r2 M => wp_X20_orOther_L24 D post o r2 M) b1 y1 M)))
set_option maxHeartbeats 4000000 in
set_option maxRecDepth 100000 in
theorem wk_X20_orOther_L17 {p : Program} {l : Launch} {e : Env} {s : State} {m : MethodId} {args : Array Value} {below : List Frame} {meth : Method} {c : Code} {D : zD} {post : Int32 → zM → Prop} {o : Nat} (hG : zGx p l s m args meth c cX20_orOther 3 "PluralBranches$Choice" D (some .int) "orOther" []) : ∀ {H : Heap} {locs : List Loc} {cells slots : Nat} {ls : Array Slot} (y0 : Option Nat) (y1 : Int32) (M : zM), cells ≤ 0 → slots ≤ 0 → zS D M H locs → lv_has ls 3 [] → wp_X20_orOther_L17 D post o y0 y1 M → W p l e rm_X20_orOther s m args below meth c H locs cells slots (vx_MQ below (zQ D zI post) (zX D (fun _ _ => False)) args s 0 0 (zA D)) (F0 m 17 ls [.int y1, va_rf y0]) := by
  have hC := hG.1
  have hx := hC.x
  have hb := hC.b
  have hown := hC.o
  have hts := hC.ts
  have hlt := hG.2.2.2.2.2
  intro H locs cells slots ls y0 y1 M hk hn hZ hl hw
  obtain ⟨b5, hr0, hw⟩ := hw
  subst hr0
  obtain ⟨⟨ci0, fs0, hci0, hM0⟩, hw⟩ := hw
  obtain ⟨C0, T0, N0, ty0, hc0, hsel0⟩ : ∃ (C0 : String) (T0 : u_T) (N0 : Nat) (ty0 : Nat → FieldType), zCls ci0 C0 T0 N0 ty0 ∧ Cond.selects C0 ⟨"PluralBranches$Choice", "of", "(I)I"⟩ yX20_of ∈ lw_all := (zal ⟨_, _, _, _, zc18, q958⟩ (zal ⟨_, _, _, _, zc19, q957⟩ (za0)) : ∀ ci ∈ [18, 19], ∃ (C0 : String) (T0 : u_T) (N0 : Nat) (ty0 : Nat → FieldType), zCls ci C0 T0 N0 ty0 ∧ Cond.selects C0 ⟨"PluralBranches$Choice", "of", "(I)I"⟩ yX20_of ∈ lw_all) ci0 hci0
  refine z_callI hZ (vx_runU (As := [.int y1]) (rest := []) hC.fix (w_X20_of hlt hw) (va_cwU (owner := "PluralBranches$Choice") (x := ⟨"PluralBranches$Choice", "of", "(I)I"⟩) 1 hts (lw_app (zal q1138 (zal q956 (zal hsel0 (zal q955 (zal q99 za0))))) (lw_meth q959)) rfl rfl rfl rfl (by decide +kernel) ⟨Nat.le_of_ble_eq_true rfl, Nat.le_of_ble_eq_true rfl⟩) (z_preV hC hZ hM0 hc0) rfl rfl hl.1 rfl (lv_room (Nat.zero_le _)) dX20_orOther_17 ⟨hk, hn⟩) (fun r6 M H locs hw1 hZ => ?_) (fun q M H locs ci fs E T9 N9 hw hZ hc1 hM1 hb1 => False.elim hw)
  replace hw := hw1
  clear hw1
  refine W.cs (cells' := cells) (slots' := slots) rfl rfl ?_
  refine lv_goto (tgt := 24) hx hb dX20_orOther_20 (by decide) ?_
  exact wk_X20_orOther_L24 hG _ _ hk hn hZ (lv_sub hl [] rfl) hw
def wp_X20_orOther (D : zD) (post : Int32 → zM → Prop) (o : Nat) (a0 : Int32) (M : zM) : Prop :=
    ((zis M o [18, 19] ∧ wp_X20_of D (fun r9 M => ((¬ r9 = (-2 : Int32) → wp_X20_orOther_L24 D post o r9 M) ∧ (r9 = (-2 : Int32) → (((zis M o [18] ∧ wp_X21_other D (fun r12 M => wp_X20_orOther_L17 D post o (some o) r12 M) o M) ∨ (zis M o [19] ∧ wp_X22_other D (fun r15 M => wp_X20_orOther_L17 D post o (some o) r15 M) o M)))))) o a0 M))
set_option maxHeartbeats 4000000 in
set_option maxRecDepth 100000 in
theorem w_X20_orOther {l : Launch} {D : zD} {post : Int32 → zM → Prop} (hlt : l.stackTraces = false) {o : Nat} {a0 : Int32} {M : zM} (hw : wp_X20_orOther D post o a0 M) : zMet l D yX20_orOther (ws_ yX20_orOther cX20_orOther 3 (some .int)) rm_X20_orOther 0 0 [.ref o, .int a0] M zI post (fun _ _ => False) := by
  unfold wp_X20_orOther at hw
  have hlv : lv_args 0 [.ref o, .int a0] = [(0, .ref o), (1, .int a0)] := (zargs1 rfl (zargs1 rfl rfl))
  refine z_ofW hlt (by decide) (Nat.le_trans (zsl1 rfl (zsl1 rfl (Nat.le_refl 0 : (lg_sl []).length ≤ 0))) (Nat.le_of_ble_eq_true rfl)) hlv ?_
  intro p e s m args below meth c ls hG hZ hl
  have hC := hG.1
  have hx := hC.x
  have hb := hC.b
  have hown := hC.o
  have hts := hC.ts
  have hlt := hG.2.2.2.2.2
  obtain ⟨cells, hce⟩ : ∃ z : Nat, z = 0 := ⟨0, rfl⟩
  obtain ⟨slots, hsl⟩ : ∃ z : Nat, z = 0 := ⟨0, rfl⟩
  refine W.cs (cells' := cells) (slots' := slots) hce.symm hsl.symm ?_
  have hk : cells ≤ 0 := Nat.le_of_eq hce
  have hn : slots ≤ 0 := Nat.le_of_eq hsl
  clear hce hsl
  refine lv_aload_n hx hb dX20_orOther_0 rfl (lv_at hl 0 rfl) ?_
  refine lv_iload_n hx hb dX20_orOther_1 rfl (lv_at hl 1 rfl) ?_
  obtain ⟨⟨ci0, fs0, hci0, hM0⟩, hw⟩ := hw
  obtain ⟨C0, T0, N0, ty0, hc0, hsel0⟩ : ∃ (C0 : String) (T0 : u_T) (N0 : Nat) (ty0 : Nat → FieldType), zCls ci0 C0 T0 N0 ty0 ∧ Cond.selects C0 ⟨"PluralBranches$Choice", "of", "(I)I"⟩ yX20_of ∈ lw_all := (zal ⟨_, _, _, _, zc18, q958⟩ (zal ⟨_, _, _, _, zc19, q957⟩ (za0)) : ∀ ci ∈ [18, 19], ∃ (C0 : String) (T0 : u_T) (N0 : Nat) (ty0 : Nat → FieldType), zCls ci C0 T0 N0 ty0 ∧ Cond.selects C0 ⟨"PluralBranches$Choice", "of", "(I)I"⟩ yX20_of ∈ lw_all) ci0 hci0
  refine z_callI hZ (vx_runU (As := [.int a0]) (rest := []) hC.fix (w_X20_of hlt hw) (va_cwU (owner := "PluralBranches$Choice") (x := ⟨"PluralBranches$Choice", "of", "(I)I"⟩) 1 hts (lw_app (zal q1138 (zal q956 (zal hsel0 (zal q955 (zal q99 za0))))) (lw_meth q959)) rfl rfl rfl rfl (by decide +kernel) ⟨Nat.le_of_ble_eq_true rfl, Nat.le_of_ble_eq_true rfl⟩) (z_preV hC hZ hM0 hc0) rfl rfl hl.1 rfl (lv_room (Nat.zero_le _)) dX20_orOther_2 ⟨hk, hn⟩) (fun r19 M H locs hw1 hZ => ?_) (fun q M H locs ci fs E T9 N9 hw hZ hc1 hM1 hb1 => False.elim hw)
  replace hw := hw1
  clear hw1
  refine W.cs (cells' := cells) (slots' := slots) rfl rfl ?_
  refine lv_istore_n (i := 2) (lv' := [(2, .int r19), (0, .ref o), (1, .int a0)]) hx hb dX20_orOther_5 rfl hl (by decide) rfl (fun ls hl1 => ?_)
  replace hl := hl1
  clear hl1
  refine lv_iload_n hx hb dX20_orOther_6 rfl (lv_at hl 0 rfl) ?_
  refine lv_bipush (v := (-2)) hx hb dX20_orOther_7 (by decide) ?_
  refine lv_icmp_ne (tgt := 23) hx hb dX20_orOther_9 (by decide) (fun c28 => ?_) (fun c28 => ?_)
  · replace hw := hw.1 c28
    refine lv_iload_n hx hb dX20_orOther_23 rfl (lv_at hl 0 rfl) ?_
    exact wk_X20_orOther_L24 hG _ _ hk hn hZ (lv_sub hl [] rfl) hw
  · replace hw := hw.2 c28
    refine lv_aload_n hx hb dX20_orOther_12 rfl (lv_at hl 1 rfl) ?_
    refine lv_aload_n hx hb dX20_orOther_13 rfl (lv_at hl 1 rfl) ?_
    rcases hw with hw | hw
    · obtain ⟨⟨ci0, fs0, hci0, hM0⟩, hw⟩ := hw
      obtain ⟨C0, T0, N0, ty0, hc0, hsel0⟩ : ∃ (C0 : String) (T0 : u_T) (N0 : Nat) (ty0 : Nat → FieldType), zCls ci0 C0 T0 N0 ty0 ∧ Cond.selects C0 ⟨"PluralBranches$Choice", "other", "()I"⟩ yX21_other ∈ lw_all := (zal ⟨_, _, _, _, zc18, q988⟩ (za0) : ∀ ci ∈ [18], ∃ (C0 : String) (T0 : u_T) (N0 : Nat) (ty0 : Nat → FieldType), zCls ci C0 T0 N0 ty0 ∧ Cond.selects C0 ⟨"PluralBranches$Choice", "other", "()I"⟩ yX21_other ∈ lw_all) ci0 hci0
      refine z_callI hZ (vx_runU (As := []) (rest := [.ref o]) hC.fix (w_X21_other hlt hw) (va_cwA (owner := "PluralBranches$Choice") (x := ⟨"PluralBranches$Choice", "other", "()I"⟩) 0 hts (lw_app (zal q1124 (zal q984 (zal hsel0 (zal q989 (zal q100 za0))))) (lw_meth q990)) rfl rfl rfl (hC.nw q983 rfl) (by decide +kernel) ⟨Nat.le_of_ble_eq_true rfl, Nat.le_of_ble_eq_true rfl⟩) (z_preV hC hZ hM0 hc0) rfl rfl hl.1 rfl (lv_room (Nat.le_trans (zrm1 rfl zrm0) (Nat.le_of_ble_eq_true rfl))) dX20_orOther_14 ⟨hk, hn⟩) (fun r22 M H locs hw1 hZ => ?_) (fun q M H locs ci fs E T9 N9 hw hZ hc1 hM1 hb1 => False.elim hw)
      replace hw := hw1
      clear hw1
      refine W.cs (cells' := cells) (slots' := slots) rfl rfl ?_
      exact wk_X20_orOther_L17 hG _ _ _ hk hn hZ (lv_sub hl [] rfl) hw
    · obtain ⟨⟨ci0, fs0, hci0, hM0⟩, hw⟩ := hw
      obtain ⟨C0, T0, N0, ty0, hc0, hsel0⟩ : ∃ (C0 : String) (T0 : u_T) (N0 : Nat) (ty0 : Nat → FieldType), zCls ci0 C0 T0 N0 ty0 ∧ Cond.selects C0 ⟨"PluralBranches$Choice", "other", "()I"⟩ yX22_other ∈ lw_all := (zal ⟨_, _, _, _, zc19, q985⟩ (za0) : ∀ ci ∈ [19], ∃ (C0 : String) (T0 : u_T) (N0 : Nat) (ty0 : Nat → FieldType), zCls ci C0 T0 N0 ty0 ∧ Cond.selects C0 ⟨"PluralBranches$Choice", "other", "()I"⟩ yX22_other ∈ lw_all) ci0 hci0
      refine z_callI hZ (vx_runU (As := []) (rest := [.ref o]) hC.fix (w_X22_other hlt hw) (va_cwA (owner := "PluralBranches$Choice") (x := ⟨"PluralBranches$Choice", "other", "()I"⟩) 0 hts (lw_app (zal q1124 (zal q984 (zal hsel0 (zal q986 (zal q101 za0))))) (lw_meth q987)) rfl rfl rfl (hC.nw q983 rfl) (by decide +kernel) ⟨Nat.le_of_ble_eq_true rfl, Nat.le_of_ble_eq_true rfl⟩) (z_preV hC hZ hM0 hc0) rfl rfl hl.1 rfl (lv_room (Nat.le_trans (zrm1 rfl zrm0) (Nat.le_of_ble_eq_true rfl))) dX20_orOther_14 ⟨hk, hn⟩) (fun r25 M H locs hw1 hZ => ?_) (fun q M H locs ci fs E T9 N9 hw hZ hc1 hM1 hb1 => False.elim hw)
      replace hw := hw1
      clear hw1
      refine W.cs (cells' := cells) (slots' := slots) rfl rfl ?_
      exact wk_X20_orOther_L17 hG _ _ _ hk hn hZ (lv_sub hl [] rfl) hw
abbrev rm_X21_comesTo : Room := { frames := 6, cells := 0, slots := 0, locals := 176 }
def wp_X21_comesTo_L50 (D : zD) (post : Int32 → zM → Prop) (o : Nat) (k2 : Option Nat → Option Nat → Int32 → zM → Prop) (x1 : Option Nat) (x2 : Option Nat) (x3 : Int32) (M : zM) : Prop :=
    k2 x1 x2 (x3 + 1) M
set_option maxHeartbeats 4000000 in
set_option maxRecDepth 100000 in
theorem wk_X21_comesTo_L50 {p : Program} {l : Launch} {e : Env} {s : State} {m : MethodId} {args : Array Value} {below : List Frame} {meth : Method} {c : Code} {D : zD} {post : Int32 → zM → Prop} {o : Nat} (hG : zGx p l s m args meth c cX21_comesTo 5 "PluralBranches$Plural" D (some .int) "comesTo" []) (k2 : Option Nat → Option Nat → Int32 → zM → Prop) (hk2 : ∀ {H : Heap} {locs : List Loc} {cells slots : Nat} {ls : Array Slot} (x1 : Option Nat) (x2 : Option Nat) (x3 : Int32) (M : zM), cells ≤ 0 → slots ≤ 0 → zS D M H locs → lv_has ls 5 [(0, .ref o), (1, va_rf x1), (2, va_rf x2), (3, .int x3)] → k2 x1 x2 x3 M → W p l e rm_X21_comesTo s m args below meth c H locs cells slots (vx_MQ below (zQ D zI post) (zX D (fun _ _ => False)) args s 0 0 (zA D)) (F0 m 2 ls [])) : ∀ {H : Heap} {locs : List Loc} {cells slots : Nat} {ls : Array Slot} (x1 : Option Nat) (x2 : Option Nat) (x3 : Int32) (M : zM), cells ≤ 0 → slots ≤ 0 → zS D M H locs → lv_has ls 5 [(0, .ref o), (1, va_rf x1), (2, va_rf x2), (3, .int x3)] → wp_X21_comesTo_L50 D post o k2 x1 x2 x3 M → W p l e rm_X21_comesTo s m args below meth c H locs cells slots (vx_MQ below (zQ D zI post) (zX D (fun _ _ => False)) args s 0 0 (zA D)) (F0 m 50 ls []) := by
  have hC := hG.1
  have hx := hC.x
  have hb := hC.b
  have hown := hC.o
  have hts := hC.ts
  have hlt := hG.2.2.2.2.2
  intro H locs cells slots ls x1 x2 x3 M hk hn hZ hl hw
  refine lv_iinc (v := (x3 + 1)) (lv' := [(3, .int (x3 + 1)), (0, .ref o), (1, va_rf x1), (2, va_rf x2)]) hx hb dX21_comesTo_50 hl (k := 3) rfl rfl (by decide) (zfc rfl (zfk rfl (zfk rfl (zfk (zfa rfl) (zfd rfl rfl))))) (fun ls hl1 => ?_)
  replace hl := hl1
  clear hl1
  refine lv_goto (tgt := 2) hx hb dX21_comesTo_53 (by decide) ?_
  exact hk2 _ _ _ _ hk hn hZ (lv_sub hl [1, 2, 3, 0] rfl) hw
def wp_X21_comesTo_L2 (D : zD) (post : Int32 → zM → Prop) (o : Nat) : Nat → Option Nat → Option Nat → Int32 → zM → Prop
  | 0 => fun _ _ _ _ => False
  | f + 1 => fun x1 x2 x3 M =>
    (zgR M o 18 0 fun g1 => ((zd g1 fun b2 => (zis M b2 [26] ∧ wp_J3_size D (fun r3 M => ((r3 ≤ x3 → ((zd x1 fun b6 => (zis M b6 [2, 4, 5, 6] ∧ wp_X2_category D (fun r7 M => ((zis M o [18] ∧ wp_X20_orOther D (fun r10 M => post r10 M) o r7 M))) b6 x2 M)))) ∧ (¬ r3 ≤ x3 → (zgR M o 18 0 fun g13 => ((zd g13 fun b14 => (zis M b14 [26] ∧ wp_J3_get D (fun r15 M => ((∀ w, r15 = some w → zis M w [20]) ∧ ((zd r15 fun b18 => zgI M b18 20 0 fun g19 => ((g19 < (10 : Int32) → wp_X21_comesTo_L50 D post o (wp_X21_comesTo_L2 D post o f) x1 x2 x3 M) ∧ (¬ g19 < (10 : Int32) → ((zd x2 fun b20 => (zis M b20 [1] ∧ wp_X1_is D (fun r21 M => ((r21 = 0 → wp_X21_comesTo_L50 D post o (wp_X21_comesTo_L2 D post o f) x1 (some b20) x3 M) ∧ (¬ r21 = 0 → post x3 M))) b20 (g19 - (10 : Int32)) M))))))))) b14 x3 M))))))) b2 M))))
set_option maxHeartbeats 4000000 in
set_option maxRecDepth 100000 in
theorem wk_X21_comesTo_L2 {p : Program} {l : Launch} {e : Env} {s : State} {m : MethodId} {args : Array Value} {below : List Frame} {meth : Method} {c : Code} {D : zD} {post : Int32 → zM → Prop} {o : Nat} (hG : zGx p l s m args meth c cX21_comesTo 5 "PluralBranches$Plural" D (some .int) "comesTo" []) : ∀ (f : Nat), ∀ {H : Heap} {locs : List Loc} {cells slots : Nat} {ls : Array Slot} (x1 : Option Nat) (x2 : Option Nat) (x3 : Int32) (M : zM), cells ≤ 0 → slots ≤ 0 → zS D M H locs → lv_has ls 5 [(0, .ref o), (1, va_rf x1), (2, va_rf x2), (3, .int x3)] → wp_X21_comesTo_L2 D post o f x1 x2 x3 M → W p l e rm_X21_comesTo s m args below meth c H locs cells slots (vx_MQ below (zQ D zI post) (zX D (fun _ _ => False)) args s 0 0 (zA D)) (F0 m 2 ls []) := by
  have hC := hG.1
  have hx := hC.x
  have hb := hC.b
  have hown := hC.o
  have hts := hC.ts
  have hlt := hG.2.2.2.2.2
  intro f
  induction f with
  | zero =>
    intro H locs cells slots ls x1 x2 x3 M hk hn hZ hl hw
    exact absurd hw (fun h => h)
  | succ f ih =>
    intro H locs cells slots ls x1 x2 x3 M hk hn hZ hl hw
    refine lv_iload_n hx hb dX21_comesTo_2 rfl (lv_at hl 3 rfl) ?_
    refine lv_aload_n hx hb dX21_comesTo_3 rfl (lv_at hl 0 rfl) ?_
    obtain ⟨fs0, g27, hM0, hx0, hw⟩ := hw
    refine z_get hC hZ hM0 zc18 0 (by decide) q824 (u_same (hts _ q825)) hx0 dX21_comesTo_4 ?_
    obtain ⟨b28, hr0, hw⟩ := hw
    subst hr0
    obtain ⟨⟨ci0, fs0, hci0, hM0⟩, hw⟩ := hw
    obtain rfl : ci0 = 26 := List.mem_singleton.mp hci0
    refine z_callI hZ (vx_runV (As := []) (rest := [.int x3]) hC.fix (w_J3_size hlt hw) (cwV 0 hts (lw_V q1139 q464 q465 q74 q466) rfl rfl rfl ⟨rfl, dd_J3_size⟩ ⟨Nat.le_of_ble_eq_true rfl, Nat.le_of_ble_eq_true rfl⟩) (z_preV hC hZ hM0 zc26) rfl rfl hl.1 rfl (lv_room (Nat.le_trans (zrm1 rfl zrm0) (Nat.le_of_ble_eq_true rfl))) dX21_comesTo_7 ⟨hk, hn⟩) (fun r29 M H locs hw1 hZ => ?_) (fun q M H locs ci fs E T9 N9 hw hZ hc1 hM1 hb1 => False.elim hw)
    replace hw := hw1
    clear hw1
    refine W.cs (cells' := cells) (slots' := slots) rfl rfl ?_
    refine lv_icmp_ge (tgt := 56) hx hb dX21_comesTo_10 (by decide) (fun c52 => ?_) (fun c52 => ?_)
    · replace hw := hw.1 c52
      refine lv_aload_n hx hb dX21_comesTo_56 rfl (lv_at hl 0 rfl) ?_
      refine z_aload_n hC dX21_comesTo_57 rfl (lv_at hl 1 rfl) ?_
      refine z_aload_n hC dX21_comesTo_58 rfl (lv_at hl 2 rfl) ?_
      obtain ⟨b32, hr0, hw⟩ := hw
      subst hr0
      obtain ⟨⟨ci0, fs0, hci0, hM0⟩, hw⟩ := hw
      obtain ⟨C0, T0, N0, ty0, hc0, hsel0⟩ : ∃ (C0 : String) (T0 : u_T) (N0 : Nat) (ty0 : Nat → FieldType), zCls ci0 C0 T0 N0 ty0 ∧ Cond.selects C0 ⟨"PluralBranches$Language", "category", "(LPluralBranches$Decimal;)I"⟩ yX2_category ∈ lw_all := (zal ⟨_, _, _, _, zc2, q455⟩ (zal ⟨_, _, _, _, zc4, q454⟩ (zal ⟨_, _, _, _, zc5, q453⟩ (zal ⟨_, _, _, _, zc6, q456⟩ (za0)))) : ∀ ci ∈ [2, 4, 5, 6], ∃ (C0 : String) (T0 : u_T) (N0 : Nat) (ty0 : Nat → FieldType), zCls ci C0 T0 N0 ty0 ∧ Cond.selects C0 ⟨"PluralBranches$Language", "category", "(LPluralBranches$Decimal;)I"⟩ yX2_category ∈ lw_all) ci0 hci0
      refine z_callI hZ (vx_runU (As := [va_rf x2]) (rest := [.ref o]) hC.fix (w_X2_category hlt hw) (va_cwU (owner := "PluralBranches$Language") (x := ⟨"PluralBranches$Language", "category", "(LPluralBranches$Decimal;)I"⟩) 1 hts (lw_app (zal q1155 (zal q452 (zal hsel0 (zal q451 (zal q70 za0))))) (lw_meth q457)) rfl rfl rfl rfl (by decide +kernel) ⟨Nat.le_of_ble_eq_true rfl, Nat.le_of_ble_eq_true rfl⟩) (z_preV hC hZ hM0 hc0) rfl rfl hl.1 rfl (lv_room (Nat.le_trans (zrm1 rfl zrm0) (Nat.le_of_ble_eq_true rfl))) dX21_comesTo_59 ⟨hk, hn⟩) (fun r33 M H locs hw1 hZ => ?_) (fun q M H locs ci fs E T9 N9 hw hZ hc1 hM1 hb1 => False.elim hw)
      replace hw := hw1
      clear hw1
      refine W.cs (cells' := cells) (slots' := slots) rfl rfl ?_
      obtain ⟨⟨ci0, fs0, hci0, hM0⟩, hw⟩ := hw
      obtain ⟨C0, T0, N0, ty0, hc0, hsel0⟩ : ∃ (C0 : String) (T0 : u_T) (N0 : Nat) (ty0 : Nat → FieldType), zCls ci0 C0 T0 N0 ty0 ∧ Cond.selects C0 ⟨"PluralBranches$Plural", "orOther", "(I)I"⟩ yX20_orOther ∈ lw_all := (zal ⟨_, _, _, _, zc18, q1159⟩ (za0) : ∀ ci ∈ [18], ∃ (C0 : String) (T0 : u_T) (N0 : Nat) (ty0 : Nat → FieldType), zCls ci C0 T0 N0 ty0 ∧ Cond.selects C0 ⟨"PluralBranches$Plural", "orOther", "(I)I"⟩ yX20_orOther ∈ lw_all) ci0 hci0
      refine z_callI hZ (vx_runU (As := [.int r33]) (rest := []) hC.fix (w_X20_orOther hlt hw) (va_cwU (owner := "PluralBranches$Choice") (x := ⟨"PluralBranches$Plural", "orOther", "(I)I"⟩) 1 hts (lw_app (zal q1156 (zal q1157 (zal hsel0 (zal q1160 (zal q99 za0))))) (lw_meth q1161)) rfl rfl rfl rfl (by decide +kernel) ⟨Nat.le_of_ble_eq_true rfl, Nat.le_of_ble_eq_true rfl⟩) (z_preV hC hZ hM0 hc0) rfl rfl hl.1 rfl (lv_room (Nat.zero_le _)) dX21_comesTo_62 ⟨hk, hn⟩) (fun r36 M H locs hw1 hZ => ?_) (fun q M H locs ci fs E T9 N9 hw hZ hc1 hM1 hb1 => False.elim hw)
      replace hw := hw1
      clear hw1
      refine W.cs (cells' := cells) (slots' := slots) rfl rfl ?_
      exact z_iret hG hZ hk hn hw dX21_comesTo_65
    · replace hw := hw.2 c52
      refine lv_aload_n hx hb dX21_comesTo_13 rfl (lv_at hl 0 rfl) ?_
      obtain ⟨fs0, g39, hM0, hx0, hw⟩ := hw
      refine z_get hC hZ hM0 zc18 0 (by decide) q824 (u_same (hts _ q825)) hx0 dX21_comesTo_14 ?_
      refine lv_iload_n hx hb dX21_comesTo_17 rfl (lv_at hl 3 rfl) ?_
      obtain ⟨b40, hr0, hw⟩ := hw
      subst hr0
      obtain ⟨⟨ci0, fs0, hci0, hM0⟩, hw⟩ := hw
      obtain rfl : ci0 = 26 := List.mem_singleton.mp hci0
      refine z_callR hZ (vx_runV (As := [.int x3]) (rest := []) hC.fix (w_J3_get hlt hw) (cwV 1 hts (lw_V q1140 q468 q469 q74 q470) rfl rfl rfl ⟨rfl, dd_J3_get⟩ ⟨Nat.le_of_ble_eq_true rfl, Nat.le_of_ble_eq_true rfl⟩) (z_preV hC hZ hM0 zc26) rfl rfl hl.1 rfl (lv_room (Nat.zero_le _)) dX21_comesTo_18 ⟨hk, hn⟩) (fun r41 M H locs hw1 hZ => ?_) (fun q M H locs ci fs E T9 N9 hw hZ hc1 hM1 hb1 => False.elim hw)
      replace hw := hw1
      clear hw1
      refine W.cs (cells' := cells) (slots' := slots) rfl rfl ?_
      obtain ⟨hc0, hw⟩ := hw
      refine z_castO (r := r41) hC hZ hc0 (zal ⟨_, _, _, _, zc20, (Or.inl rfl)⟩ (za0)) q1141 dX21_comesTo_21 ?_
      obtain ⟨b44, hr0, hw⟩ := hw
      subst hr0
      obtain ⟨fs0, g45, hM0, hx0, hw⟩ := hw
      refine z_getN hC hZ hM0 zc20 0 (by decide) q971 (fun _ h9 => h9) hx0 dX21_comesTo_24 ?_
      refine lv_istore (i := 4) (lv' := [(4, .int g45), (0, .ref o), (1, va_rf x1), (2, va_rf x2), (3, .int x3)]) hx hb dX21_comesTo_27 hl (by decide) rfl (fun ls hl1 => ?_)
      replace hl := hl1
      clear hl1
      refine lv_iload hx hb dX21_comesTo_29 (lv_at hl 0 rfl) ?_
      refine lv_bipush (v := 10) hx hb dX21_comesTo_31 (by decide) ?_
      refine lv_icmp_lt (tgt := 50) hx hb dX21_comesTo_33 (by decide) (fun c51 => ?_) (fun c51 => ?_)
      · replace hw := hw.1 c51
        exact wk_X21_comesTo_L50 hG _ (fun {_ _ _ _ _} _z0 _z1 _z2 _z3 h1 h2 h3 h4 h5 => ih _z0 _z1 _z2 _z3 h1 h2 h3 h4 h5) _ _ _ _ hk hn hZ (lv_sub hl [1, 2, 3, 4] rfl) hw
      · replace hw := hw.2 c51
        refine z_aload_n hC dX21_comesTo_36 rfl (lv_at hl 3 rfl) ?_
        refine lv_iload hx hb dX21_comesTo_37 (lv_at hl 0 rfl) ?_
        refine lv_bipush (v := 10) hx hb dX21_comesTo_39 (by decide) ?_
        refine lv_isub hx hb dX21_comesTo_41 ?_
        obtain ⟨b46, hr0, hw⟩ := hw
        subst hr0
        obtain ⟨⟨ci0, fs0, hci0, hM0⟩, hw⟩ := hw
        obtain rfl : ci0 = 1 := List.mem_singleton.mp hci0
        refine z_callI hZ (vx_runV (As := [.int (g45 - (10 : Int32))]) (rest := []) hC.fix (w_X1_is hlt hw) (cwV 1 hts (lw_V q1151 q1152 q1153 q68 q1154) rfl rfl rfl ⟨rfl, dd_X1_is⟩ ⟨Nat.le_of_ble_eq_true rfl, Nat.le_of_ble_eq_true rfl⟩) (z_preV hC hZ hM0 zc1) rfl rfl hl.1 rfl (lv_room (Nat.zero_le _)) dX21_comesTo_42 ⟨hk, hn⟩) (fun r47 M H locs hw1 hZ => ?_) (fun q M H locs ci fs E T9 N9 hw hZ hc1 hM1 hb1 => False.elim hw)
        replace hw := hw1
        clear hw1
        refine W.cs (cells' := cells) (slots' := slots) rfl rfl ?_
        refine lv_if_eq (tgt := 50) hx hb dX21_comesTo_45 (by decide) (fun c50 => ?_) (fun c50 => ?_)
        · replace hw := hw.1 c50
          exact wk_X21_comesTo_L50 hG _ (fun {_ _ _ _ _} _z0 _z1 _z2 _z3 h1 h2 h3 h4 h5 => ih _z0 _z1 _z2 _z3 h1 h2 h3 h4 h5) _ _ _ _ hk hn hZ (lv_sub hl [1, 2, 3, 4] rfl) hw
        · replace hw := hw.2 c50
          refine lv_iload_n hx hb dX21_comesTo_48 rfl (lv_at hl 4 rfl) ?_
          exact z_iret hG hZ hk hn hw dX21_comesTo_49
def wp_X21_comesTo (D : zD) (post : Int32 → zM → Prop) (o : Nat) (a0 : Option Nat) (a1 : Option Nat) (M : zM) : Prop :=
    (∃ f, wp_X21_comesTo_L2 D post o f a0 a1 (0 : Int32) M)
set_option maxHeartbeats 4000000 in
set_option maxRecDepth 100000 in
theorem w_X21_comesTo {l : Launch} {D : zD} {post : Int32 → zM → Prop} (hlt : l.stackTraces = false) {o : Nat} {a0 : Option Nat} {a1 : Option Nat} {M : zM} (hw : wp_X21_comesTo D post o a0 a1 M) : zMet l D yX21_comesTo (ws_ yX21_comesTo cX21_comesTo 5 (some .int)) rm_X21_comesTo 0 0 [.ref o, va_rf a0, va_rf a1] M zI post (fun _ _ => False) := by
  unfold wp_X21_comesTo at hw
  have hlv : lv_args 0 [.ref o, va_rf a0, va_rf a1] = [(0, .ref o), (1, va_rf a0), (2, va_rf a1)] := (zargs1 rfl (zargs1 (zcat _) (zargs1 (zcat _) rfl)))
  refine z_ofW hlt (by decide) (Nat.le_trans (zsl1 rfl (zsl1 (zcat _) (zsl1 (zcat _) (Nat.le_refl 0 : (lg_sl []).length ≤ 0)))) (Nat.le_of_ble_eq_true rfl)) hlv ?_
  intro p e s m args below meth c ls hG hZ hl
  have hC := hG.1
  have hx := hC.x
  have hb := hC.b
  have hown := hC.o
  have hts := hC.ts
  have hlt := hG.2.2.2.2.2
  obtain ⟨cells, hce⟩ : ∃ z : Nat, z = 0 := ⟨0, rfl⟩
  obtain ⟨slots, hsl⟩ : ∃ z : Nat, z = 0 := ⟨0, rfl⟩
  refine W.cs (cells' := cells) (slots' := slots) hce.symm hsl.symm ?_
  have hk : cells ≤ 0 := Nat.le_of_eq hce
  have hn : slots ≤ 0 := Nat.le_of_eq hsl
  clear hce hsl
  refine lv_iconst (v := 0) hx hb dX21_comesTo_0 (by decide) ?_
  refine lv_istore_n (i := 3) (lv' := [(3, .int (0 : Int32)), (0, .ref o), (1, va_rf a0), (2, va_rf a1)]) hx hb dX21_comesTo_1 rfl hl (by decide) (zfc rfl (zfk rfl (zfk rfl (zfk (zfa rfl) rfl)))) (fun ls hl1 => ?_)
  replace hl := hl1
  clear hl1
  obtain ⟨f1, hw⟩ := hw
  exact wk_X21_comesTo_L2 hG f1 _ _ _ _ hk hn hZ (lv_sub hl [1, 2, 3, 0] rfl) hw
abbrev rm_X0_branch (K N : Nat) : Room := { frames := 7, cells := K, slots := N, locals := 200 }
def wp_X0_branch_L22 (D : zD) (post : Int32 → zM → Prop) (o : Nat) (k : Nat) (n : Nat) (M : zM) : Prop :=
    post (-1 : Int32) M
set_option maxHeartbeats 4000000 in
set_option maxRecDepth 100000 in
theorem wk_X0_branch_L22 {p : Program} {l : Launch} {e : Env} {s : State} {m : MethodId} {args : Array Value} {below : List Frame} {meth : Method} {c : Code} {D : zD} {post : Int32 → zM → Prop} {K N : Nat} {o : Nat} (hG : zGx p l s m args meth c cX0_branch 8 "PluralBranches" D (some .int) "branch" []) : ∀ {H : Heap} {locs : List Loc} {cells slots : Nat} {ls : Array Slot} (k : Nat) (n : Nat) (M : zM), cells + k ≤ K → slots + n ≤ N → zS D M H locs → lv_has ls 8 [] → wp_X0_branch_L22 D post o k n M → W p l e (rm_X0_branch K N) s m args below meth c H locs cells slots (vx_MQ below (zQ D zI post) (zX D (fun _ _ => False)) args s K N (zA D)) (F0 m 22 ls []) := by
  have hC := hG.1
  have hx := hC.x
  have hb := hC.b
  have hown := hC.o
  have hts := hC.ts
  have hlt := hG.2.2.2.2.2
  intro H locs cells slots ls k n M hk hn hZ hl hw
  refine lv_iconst (v := (-1)) hx hb dX0_branch_22 (by decide) ?_
  exact z_iret hG hZ (by omega) (by omega) hw dX0_branch_23
def wp_X0_branch_L74 (D : zD) (post : Int32 → zM → Prop) (o : Nat) (k : Nat) (n : Nat) (y0 : Int32) (M : zM) : Prop :=
    post y0 M
set_option maxHeartbeats 4000000 in
set_option maxRecDepth 100000 in
theorem wk_X0_branch_L74 {p : Program} {l : Launch} {e : Env} {s : State} {m : MethodId} {args : Array Value} {below : List Frame} {meth : Method} {c : Code} {D : zD} {post : Int32 → zM → Prop} {K N : Nat} {o : Nat} (hG : zGx p l s m args meth c cX0_branch 8 "PluralBranches" D (some .int) "branch" []) : ∀ {H : Heap} {locs : List Loc} {cells slots : Nat} {ls : Array Slot} (k : Nat) (n : Nat) (y0 : Int32) (M : zM), cells + k ≤ K → slots + n ≤ N → zS D M H locs → lv_has ls 8 [] → wp_X0_branch_L74 D post o k n y0 M → W p l e (rm_X0_branch K N) s m args below meth c H locs cells slots (vx_MQ below (zQ D zI post) (zX D (fun _ _ => False)) args s K N (zA D)) (F0 m 74 ls [.int y0]) := by
  have hC := hG.1
  have hx := hC.x
  have hb := hC.b
  have hown := hC.o
  have hts := hC.ts
  have hlt := hG.2.2.2.2.2
  intro H locs cells slots ls k n y0 M hk hn hZ hl hw
  exact z_iret hG hZ (by omega) (by omega) hw dX0_branch_74
def wp_X0_branch (D : zD) (post : Int32 → zM → Prop) (k : Nat) (n : Nat) (o : Nat) (a0 : Int32) (a1 : Int32) (a2 : Int32) (a3 : Int32) (a4 : Int32) (M : zM) : Prop :=
    (wp_X0_isSlot D (fun r1 M => ((r1 = 0 → wp_X0_branch_L22 D post o k n M) ∧ (¬ r1 = 0 → (wp_X0_isLanguage D (fun r4 M => ((r4 = 0 → wp_X0_branch_L22 D post o k n M) ∧ (¬ r4 = 0 → (wp_X0_isScale D (fun r7 M => ((¬ r7 = 0 → ((zis M o [0] ∧ wp_X0_choiceOf D (fun r10 M => ((∃ w fs, r10 = some w ∧ M w = some (.inr (18, fs)) ∧ (((1 : Int32) = 0 → wp_X0_branch_L74 D post o k n (-2 : Int32) M) ∧ (¬ (1 : Int32) = 0 → ((∀ w, r10 = some w → zis M w [18]) ∧ (zgR M o 0 0 fun g13 => ((zd g13 fun b14 => zaR M b14 6 a1 fun v15 => (znew D M 1 6 [.int 0, .int 0, .long 0, .long 0, .int 0, .long 0] k n fun b16 M => (wp_X1_init_2 D (fun _ M => ((zd r10 fun b20 => (zis M b20 [18] ∧ wp_X21_comesTo D (fun r21 M => wp_X0_branch_L74 D post o (k - 1) (n - 6) r21 M) b20 v15 (some b16) M)))) b16 a3 a4 M))))))))) ∨ ((∀ w, r10 = some w → zis M w [19]) ∧ (((0 : Int32) = 0 → wp_X0_branch_L74 D post o k n (-2 : Int32) M) ∧ (¬ (0 : Int32) = 0 → ((∀ w, r10 = some w → zis M w [18]) ∧ (zgR M o 0 0 fun g25 => ((zd g25 fun b26 => zaR M b26 6 a1 fun v27 => (znew D M 1 6 [.int 0, .int 0, .long 0, .long 0, .int 0, .long 0] k n fun b28 M => (wp_X1_init_2 D (fun _ M => ((zd r10 fun b32 => (zis M b32 [18] ∧ wp_X21_comesTo D (fun r33 M => wp_X0_branch_L74 D post o (k - 1) (n - 6) r33 M) b32 v27 (some b28) M)))) b28 a3 a4 M))))))))))) o a0 a2 M))) ∧ (r7 = 0 → wp_X0_branch_L22 D post o k n M))) a4 M)))) a1 M)))) a0 M)
set_option maxHeartbeats 4000000 in
set_option maxRecDepth 100000 in
theorem w_X0_branch {l : Launch} {D : zD} {post : Int32 → zM → Prop} (hlt : l.stackTraces = false) {k : Nat} {n : Nat} {o : Nat} {a0 : Int32} {a1 : Int32} {a2 : Int32} {a3 : Int32} {a4 : Int32} {M : zM} (hw : wp_X0_branch D post k n o a0 a1 a2 a3 a4 M) : zMet l D yX0_branch (ws_ yX0_branch cX0_branch 8 (some .int)) (rm_X0_branch k n) k n [.ref o, .int a0, .int a1, .int a2, .int a3, .int a4] M zI post (fun _ _ => False) := by
  unfold wp_X0_branch at hw
  have hlv : lv_args 0 [.ref o, .int a0, .int a1, .int a2, .int a3, .int a4] = [(0, .ref o), (1, .int a0), (2, .int a1), (3, .int a2), (4, .int a3), (5, .int a4)] := (zargs1 rfl (zargs1 rfl (zargs1 rfl (zargs1 rfl (zargs1 rfl (zargs1 rfl rfl))))))
  refine z_ofW hlt (by decide) (Nat.le_trans (zsl1 rfl (zsl1 rfl (zsl1 rfl (zsl1 rfl (zsl1 rfl (zsl1 rfl (Nat.le_refl 0 : (lg_sl []).length ≤ 0))))))) (Nat.le_of_ble_eq_true rfl)) hlv ?_
  intro p e s m args below meth c ls hG hZ hl
  have hC := hG.1
  have hx := hC.x
  have hb := hC.b
  have hown := hC.o
  have hts := hC.ts
  have hlt := hG.2.2.2.2.2
  obtain ⟨cells, hce⟩ : ∃ z : Nat, z = 0 := ⟨0, rfl⟩
  obtain ⟨slots, hsl⟩ : ∃ z : Nat, z = 0 := ⟨0, rfl⟩
  refine W.cs (cells' := cells) (slots' := slots) hce.symm hsl.symm ?_
  have hk : cells + k ≤ k := by omega
  have hn : slots + n ≤ n := by omega
  clear hce hsl
  refine lv_iload_n hx hb dX0_branch_0 rfl (lv_at hl 1 rfl) ?_
  refine z_callI hZ (vx_runS (As := [.int a0]) (rest := []) hC.fix (w_X0_isSlot hlt hw) (va_cwS 1 hts (lw_S q528 q529 q67 q530) rfl rfl rfl dd_X0_isSlot ⟨Nat.le_of_ble_eq_true rfl, Nat.le_of_ble_eq_true rfl⟩) (z_preS hC hZ) rfl rfl hl.1 rfl (lv_room (Nat.zero_le _)) dX0_branch_1 ⟨(show cells + 0 ≤ k by omega), (show slots + 0 ≤ n by omega)⟩) (fun r40 M H locs hw1 hZ => ?_) (fun q M H locs ci fs E T9 N9 hw hZ hc1 hM1 hb1 => False.elim hw)
  replace hw := hw1
  clear hw1
  refine W.cs (cells' := cells) (slots' := slots) rfl rfl ?_
  refine lv_if_eq (tgt := 22) hx hb dX0_branch_4 (by decide) (fun c78 => ?_) (fun c78 => ?_)
  · replace hw := hw.1 c78
    exact wk_X0_branch_L22 hG _ _ _ hk hn hZ (lv_sub hl [] rfl) hw
  · replace hw := hw.2 c78
    refine lv_iload_n hx hb dX0_branch_7 rfl (lv_at hl 2 rfl) ?_
    refine z_callI hZ (vx_runS (As := [.int a1]) (rest := []) hC.fix (w_X0_isLanguage hlt hw) (va_cwS 1 hts (lw_S q447 q448 q67 q449) rfl rfl rfl dd_X0_isLanguage ⟨Nat.le_of_ble_eq_true rfl, Nat.le_of_ble_eq_true rfl⟩) (z_preS hC hZ) rfl rfl hl.1 rfl (lv_room (Nat.zero_le _)) dX0_branch_8 ⟨(show cells + 0 ≤ k by omega), (show slots + 0 ≤ n by omega)⟩) (fun r43 M H locs hw1 hZ => ?_) (fun q M H locs ci fs E T9 N9 hw hZ hc1 hM1 hb1 => False.elim hw)
    replace hw := hw1
    clear hw1
    refine W.cs (cells' := cells) (slots' := slots) rfl rfl ?_
    refine lv_if_eq (tgt := 22) hx hb dX0_branch_11 (by decide) (fun c77 => ?_) (fun c77 => ?_)
    · replace hw := hw.1 c77
      exact wk_X0_branch_L22 hG _ _ _ hk hn hZ (lv_sub hl [] rfl) hw
    · replace hw := hw.2 c77
      refine lv_iload hx hb dX0_branch_14 (lv_at hl 5 rfl) ?_
      refine z_callI hZ (vx_runS (As := [.int a4]) (rest := []) hC.fix (w_X0_isScale hlt hw) (va_cwS 1 hts (lw_S q430 q431 q67 q432) rfl rfl rfl dd_X0_isScale ⟨Nat.le_of_ble_eq_true rfl, Nat.le_of_ble_eq_true rfl⟩) (z_preS hC hZ) rfl rfl hl.1 rfl (lv_room (Nat.zero_le _)) dX0_branch_16 ⟨(show cells + 0 ≤ k by omega), (show slots + 0 ≤ n by omega)⟩) (fun r46 M H locs hw1 hZ => ?_) (fun q M H locs ci fs E T9 N9 hw hZ hc1 hM1 hb1 => False.elim hw)
      replace hw := hw1
      clear hw1
      refine W.cs (cells' := cells) (slots' := slots) rfl rfl ?_
      refine lv_if_ne (tgt := 24) hx hb dX0_branch_19 (by decide) (fun c76 => ?_) (fun c76 => ?_)
      · replace hw := hw.1 c76
        refine lv_aload_n hx hb dX0_branch_24 rfl (lv_at hl 0 rfl) ?_
        refine lv_iload_n hx hb dX0_branch_25 rfl (lv_at hl 1 rfl) ?_
        refine lv_iload_n hx hb dX0_branch_26 rfl (lv_at hl 3 rfl) ?_
        obtain ⟨⟨ci0, fs0, hci0, hM0⟩, hw⟩ := hw
        obtain rfl : ci0 = 0 := List.mem_singleton.mp hci0
        refine z_callR hZ (vx_runV (As := [.int a0, .int a2]) (rest := []) hC.fix (w_X0_choiceOf hlt hw) (cwV 2 hts (lw_V q1092 q1094 qs22 q67 q1095) rfl rfl rfl ⟨rfl, dd_X0_choiceOf⟩ ⟨Nat.le_of_ble_eq_true rfl, Nat.le_of_ble_eq_true rfl⟩) (z_preV hC hZ hM0 zc0) rfl rfl hl.1 rfl (lv_room (Nat.zero_le _)) dX0_branch_27 ⟨(show cells + 0 ≤ k by omega), (show slots + 0 ≤ n by omega)⟩) (fun r49 M H locs hw1 hZ => ?_) (fun q M H locs ci fs E T9 N9 hw hZ hc1 hM1 hb1 => False.elim hw)
        replace hw := hw1
        clear hw1
        refine W.cs (cells' := cells) (slots' := slots) rfl rfl ?_
        refine z_astore (i := 6) (lv' := [(6, va_rf r49), (0, .ref o), (1, .int a0), (2, .int a1), (3, .int a2), (4, .int a3), (5, .int a4)]) hC dX0_branch_30 hl (by decide) rfl (fun ls hl1 => ?_)
        replace hl := hl1
        clear hl1
        refine z_aload hC dX0_branch_32 (lv_at hl 0 rfl) ?_
        rcases hw with ⟨w0, fs0, hr0, hM0, hw⟩ | ⟨hc0, hw⟩
        · refine z_instYO (r := r49) hC hZ hr0 hM0 zc18 q1146 rfl dX0_branch_34 ?_
          refine lv_if_eq (tgt := 72) hx hb dX0_branch_37 (by decide) (fun c63 => ?_) (fun c63 => ?_)
          · replace hw := hw.1 c63
            refine lv_bipush (v := (-2)) hx hb dX0_branch_72 (by decide) ?_
            exact wk_X0_branch_L74 hG _ _ _ _ hk hn hZ (lv_sub hl [] rfl) hw
          · replace hw := hw.2 c63
            refine z_aload hC dX0_branch_40 (lv_at hl 0 rfl) ?_
            obtain ⟨hc0, hw⟩ := hw
            refine z_castO (r := r49) hC hZ hc0 (zal ⟨_, _, _, _, zc18, (Or.inl rfl)⟩ (za0)) q1146 dX0_branch_42 ?_
            refine z_astore (i := 7) (lv' := [(7, va_rf r49), (6, va_rf r49), (0, .ref o), (1, .int a0), (2, .int a1), (3, .int a2), (4, .int a3), (5, .int a4)]) hC dX0_branch_45 hl (by decide) (zfc rfl (zfk (zfa rfl) (zfk rfl (zfk rfl (zfk rfl (zfk rfl (zfk rfl (zfk rfl rfl)))))))) (fun ls hl1 => ?_)
            replace hl := hl1
            clear hl1
            refine z_aload hC dX0_branch_47 (lv_at hl 0 rfl) ?_
            refine lv_aload_n hx hb dX0_branch_49 rfl (lv_at hl 2 rfl) ?_
            obtain ⟨fs0, g52, hM0, hx0, hw⟩ := hw
            refine z_get hC hZ hM0 zc0 0 (by decide) q399 (fun _ h9 => h9) hx0 dX0_branch_50 ?_
            refine lv_iload_n hx hb dX0_branch_53 rfl (lv_at hl 4 rfl) ?_
            obtain ⟨b53, hr0, hw⟩ := hw
            subst hr0
            obtain ⟨n0, f0, v54, hM0, hi0, hr0, hw⟩ := hw
            refine z_aald hC hZ hM0 (by decide) rfl hi0 hr0 dX0_branch_54 ?_
            obtain ⟨hk1, hn1, hw⟩ := hw
            refine z_new (fs := [.int 0, .int 0, .long 0, .long 0, .int 0, .long 0]) hC hZ zc1 q128 q130 q68 (zdefs (N := 6) (ty := tyX1) (fs := [.int 0, .int 0, .long 0, .long 0, .int 0, .long 0]) (by decide)) (show cells + 1 ≤ k by omega) (show slots + 6 ≤ n by omega) dX0_branch_55 (fun b55 H hq0 hq1 hZ => ?_)
            replace hw := hw b55 hq0 hq1
            generalize zu M _ _ = M at hw hZ
            have hk : cells + 1 + (k - 1) ≤ k := by omega
            have hn : slots + 6 + (n - 6) ≤ n := by omega
            generalize cells + 1 = cells at hk ⊢
            generalize slots + 6 = slots at hn ⊢
            clear hk1 hn1
            refine lv_dup hx hb dX0_branch_58 rfl ?_
            refine lv_iload hx hb dX0_branch_59 (lv_at hl 6 rfl) ?_
            refine lv_iload hx hb dX0_branch_61 (lv_at hl 7 rfl) ?_
            refine z_callU hZ (vx_runI (As := [.int a3, .int a4]) (rest := [.ref b55, va_rf v54, va_rf r49]) hC.fix (w_X1_init_2 hlt hw) (cwI 2 hts (lw_meth q136) rfl rfl rfl (hts _ q68) (hts _ q176) (hts _ q135) rfl dd_X1_init_2 ⟨Nat.le_of_ble_eq_true rfl, Nat.le_of_ble_eq_true rfl⟩) (z_preS hC hZ) rfl rfl hl.1 rfl (lv_room (Nat.le_trans (zrm1 rfl (zrm1 (zcat _) (zrm1 (zcat _) zrm0))) (Nat.le_of_ble_eq_true rfl))) dX0_branch_63 ⟨(show cells + 0 ≤ k by omega), (show slots + 0 ≤ n by omega)⟩) (fun r56 M H locs hw1 hZ => ?_) (fun q M H locs ci fs E T9 N9 hw hZ hc1 hM1 hb1 => False.elim hw)
            replace hw := hw1
            clear hw1
            refine W.cs (cells' := cells) (slots' := slots) rfl rfl ?_
            obtain ⟨b59, hr0, hw⟩ := hw
            subst hr0
            obtain ⟨⟨ci0, fs0, hci0, hM0⟩, hw⟩ := hw
            obtain rfl : ci0 = 18 := List.mem_singleton.mp hci0
            refine z_callI hZ (vx_runV (As := [va_rf v54, .ref b55]) (rest := []) hC.fix (w_X21_comesTo hlt hw) (cwV 2 hts (lw_V q1147 q1148 q1149 q100 q1150) rfl rfl rfl ⟨rfl, dd_X21_comesTo⟩ ⟨Nat.le_of_ble_eq_true rfl, Nat.le_of_ble_eq_true rfl⟩) (z_preV hC hZ hM0 zc18) rfl rfl hl.1 rfl (lv_room (Nat.zero_le _)) dX0_branch_66 ⟨(show cells + 0 ≤ k by omega), (show slots + 0 ≤ n by omega)⟩) (fun r60 M H locs hw1 hZ => ?_) (fun q M H locs ci fs E T9 N9 hw hZ hc1 hM1 hb1 => False.elim hw)
            replace hw := hw1
            clear hw1
            refine W.cs (cells' := cells) (slots' := slots) rfl rfl ?_
            refine lv_goto (tgt := 74) hx hb dX0_branch_69 (by decide) ?_
            exact wk_X0_branch_L74 hG _ _ _ _ hk hn hZ (lv_sub hl [] rfl) hw
        · refine z_instNO (r := r49) hC hZ hc0 (zal ⟨_, _, _, _, zc19, by decide⟩ (za0)) q1146 dX0_branch_34 ?_
          refine lv_if_eq (tgt := 72) hx hb dX0_branch_37 (by decide) (fun c75 => ?_) (fun c75 => ?_)
          · replace hw := hw.1 c75
            refine lv_bipush (v := (-2)) hx hb dX0_branch_72 (by decide) ?_
            exact wk_X0_branch_L74 hG _ _ _ _ hk hn hZ (lv_sub hl [] rfl) hw
          · replace hw := hw.2 c75
            refine z_aload hC dX0_branch_40 (lv_at hl 0 rfl) ?_
            obtain ⟨hc0, hw⟩ := hw
            refine z_castO (r := r49) hC hZ hc0 (zal ⟨_, _, _, _, zc18, (Or.inl rfl)⟩ (za0)) q1146 dX0_branch_42 ?_
            refine z_astore (i := 7) (lv' := [(7, va_rf r49), (6, va_rf r49), (0, .ref o), (1, .int a0), (2, .int a1), (3, .int a2), (4, .int a3), (5, .int a4)]) hC dX0_branch_45 hl (by decide) (zfc rfl (zfk (zfa rfl) (zfk rfl (zfk rfl (zfk rfl (zfk rfl (zfk rfl (zfk rfl rfl)))))))) (fun ls hl1 => ?_)
            replace hl := hl1
            clear hl1
            refine z_aload hC dX0_branch_47 (lv_at hl 0 rfl) ?_
            refine lv_aload_n hx hb dX0_branch_49 rfl (lv_at hl 2 rfl) ?_
            obtain ⟨fs0, g64, hM0, hx0, hw⟩ := hw
            refine z_get hC hZ hM0 zc0 0 (by decide) q399 (fun _ h9 => h9) hx0 dX0_branch_50 ?_
            refine lv_iload_n hx hb dX0_branch_53 rfl (lv_at hl 4 rfl) ?_
            obtain ⟨b65, hr0, hw⟩ := hw
            subst hr0
            obtain ⟨n0, f0, v66, hM0, hi0, hr0, hw⟩ := hw
            refine z_aald hC hZ hM0 (by decide) rfl hi0 hr0 dX0_branch_54 ?_
            obtain ⟨hk1, hn1, hw⟩ := hw
            refine z_new (fs := [.int 0, .int 0, .long 0, .long 0, .int 0, .long 0]) hC hZ zc1 q128 q130 q68 (zdefs (N := 6) (ty := tyX1) (fs := [.int 0, .int 0, .long 0, .long 0, .int 0, .long 0]) (by decide)) (show cells + 1 ≤ k by omega) (show slots + 6 ≤ n by omega) dX0_branch_55 (fun b67 H hq0 hq1 hZ => ?_)
            replace hw := hw b67 hq0 hq1
            generalize zu M _ _ = M at hw hZ
            have hk : cells + 1 + (k - 1) ≤ k := by omega
            have hn : slots + 6 + (n - 6) ≤ n := by omega
            generalize cells + 1 = cells at hk ⊢
            generalize slots + 6 = slots at hn ⊢
            clear hk1 hn1
            refine lv_dup hx hb dX0_branch_58 rfl ?_
            refine lv_iload hx hb dX0_branch_59 (lv_at hl 6 rfl) ?_
            refine lv_iload hx hb dX0_branch_61 (lv_at hl 7 rfl) ?_
            refine z_callU hZ (vx_runI (As := [.int a3, .int a4]) (rest := [.ref b67, va_rf v66, va_rf r49]) hC.fix (w_X1_init_2 hlt hw) (cwI 2 hts (lw_meth q136) rfl rfl rfl (hts _ q68) (hts _ q176) (hts _ q135) rfl dd_X1_init_2 ⟨Nat.le_of_ble_eq_true rfl, Nat.le_of_ble_eq_true rfl⟩) (z_preS hC hZ) rfl rfl hl.1 rfl (lv_room (Nat.le_trans (zrm1 rfl (zrm1 (zcat _) (zrm1 (zcat _) zrm0))) (Nat.le_of_ble_eq_true rfl))) dX0_branch_63 ⟨(show cells + 0 ≤ k by omega), (show slots + 0 ≤ n by omega)⟩) (fun r68 M H locs hw1 hZ => ?_) (fun q M H locs ci fs E T9 N9 hw hZ hc1 hM1 hb1 => False.elim hw)
            replace hw := hw1
            clear hw1
            refine W.cs (cells' := cells) (slots' := slots) rfl rfl ?_
            obtain ⟨b71, hr0, hw⟩ := hw
            subst hr0
            obtain ⟨⟨ci0, fs0, hci0, hM0⟩, hw⟩ := hw
            obtain rfl : ci0 = 18 := List.mem_singleton.mp hci0
            refine z_callI hZ (vx_runV (As := [va_rf v66, .ref b67]) (rest := []) hC.fix (w_X21_comesTo hlt hw) (cwV 2 hts (lw_V q1147 q1148 q1149 q100 q1150) rfl rfl rfl ⟨rfl, dd_X21_comesTo⟩ ⟨Nat.le_of_ble_eq_true rfl, Nat.le_of_ble_eq_true rfl⟩) (z_preV hC hZ hM0 zc18) rfl rfl hl.1 rfl (lv_room (Nat.zero_le _)) dX0_branch_66 ⟨(show cells + 0 ≤ k by omega), (show slots + 0 ≤ n by omega)⟩) (fun r72 M H locs hw1 hZ => ?_) (fun q M H locs ci fs E T9 N9 hw hZ hc1 hM1 hb1 => False.elim hw)
            replace hw := hw1
            clear hw1
            refine W.cs (cells' := cells) (slots' := slots) rfl rfl ?_
            refine lv_goto (tgt := 74) hx hb dX0_branch_69 (by decide) ?_
            exact wk_X0_branch_L74 hG _ _ _ _ hk hn hZ (lv_sub hl [] rfl) hw
      · replace hw := hw.2 c76
        exact wk_X0_branch_L22 hG _ _ _ hk hn hZ (lv_sub hl [] rfl) hw
abbrev rm_X0_category (K N : Nat) : Room := { frames := 6, cells := K, slots := N, locals := 176 }
def wp_X0_category_L36 (D : zD) (post : Int32 → zM → Prop) (o : Nat) (k : Nat) (n : Nat) (y0 : Int32) (M : zM) : Prop :=
    post y0 M
set_option maxHeartbeats 4000000 in
set_option maxRecDepth 100000 in
theorem wk_X0_category_L36 {p : Program} {l : Launch} {e : Env} {s : State} {m : MethodId} {args : Array Value} {below : List Frame} {meth : Method} {c : Code} {D : zD} {post : Int32 → zM → Prop} {K N : Nat} {o : Nat} (hG : zGx p l s m args meth c cX0_category 4 "PluralBranches" D (some .int) "category" []) : ∀ {H : Heap} {locs : List Loc} {cells slots : Nat} {ls : Array Slot} (k : Nat) (n : Nat) (y0 : Int32) (M : zM), cells + k ≤ K → slots + n ≤ N → zS D M H locs → lv_has ls 4 [] → wp_X0_category_L36 D post o k n y0 M → W p l e (rm_X0_category K N) s m args below meth c H locs cells slots (vx_MQ below (zQ D zI post) (zX D (fun _ _ => False)) args s K N (zA D)) (F0 m 36 ls [.int y0]) := by
  have hC := hG.1
  have hx := hC.x
  have hb := hC.b
  have hown := hC.o
  have hts := hC.ts
  have hlt := hG.2.2.2.2.2
  intro H locs cells slots ls k n y0 M hk hn hZ hl hw
  exact z_iret hG hZ (by omega) (by omega) hw dX0_category_36
def wp_X0_category_L35 (D : zD) (post : Int32 → zM → Prop) (o : Nat) (k : Nat) (n : Nat) (M : zM) : Prop :=
    wp_X0_category_L36 D post o k n (-1 : Int32) M
set_option maxHeartbeats 4000000 in
set_option maxRecDepth 100000 in
theorem wk_X0_category_L35 {p : Program} {l : Launch} {e : Env} {s : State} {m : MethodId} {args : Array Value} {below : List Frame} {meth : Method} {c : Code} {D : zD} {post : Int32 → zM → Prop} {K N : Nat} {o : Nat} (hG : zGx p l s m args meth c cX0_category 4 "PluralBranches" D (some .int) "category" []) : ∀ {H : Heap} {locs : List Loc} {cells slots : Nat} {ls : Array Slot} (k : Nat) (n : Nat) (M : zM), cells + k ≤ K → slots + n ≤ N → zS D M H locs → lv_has ls 4 [] → wp_X0_category_L35 D post o k n M → W p l e (rm_X0_category K N) s m args below meth c H locs cells slots (vx_MQ below (zQ D zI post) (zX D (fun _ _ => False)) args s K N (zA D)) (F0 m 35 ls []) := by
  have hC := hG.1
  have hx := hC.x
  have hb := hC.b
  have hown := hC.o
  have hts := hC.ts
  have hlt := hG.2.2.2.2.2
  intro H locs cells slots ls k n M hk hn hZ hl hw
  refine lv_iconst (v := (-1)) hx hb dX0_category_35 (by decide) ?_
  exact wk_X0_category_L36 hG _ _ _ _ hk hn hZ (lv_sub hl [] rfl) hw
def wp_X0_category (D : zD) (post : Int32 → zM → Prop) (k : Nat) (n : Nat) (o : Nat) (a0 : Int32) (a1 : Int32) (a2 : Int32) (M : zM) : Prop :=
    (wp_X0_isLanguage D (fun r1 M => ((r1 = 0 → wp_X0_category_L35 D post o k n M) ∧ (¬ r1 = 0 → (wp_X0_isScale D (fun r4 M => ((r4 = 0 → wp_X0_category_L35 D post o k n M) ∧ (¬ r4 = 0 → (zgR M o 0 0 fun g7 => ((zd g7 fun b8 => zaR M b8 6 a0 fun v9 => (znew D M 1 6 [.int 0, .int 0, .long 0, .long 0, .int 0, .long 0] k n fun b10 M => (wp_X1_init_2 D (fun _ M => ((zd v9 fun b14 => (zis M b14 [2, 4, 5, 6] ∧ wp_X2_category D (fun r15 M => wp_X0_category_L36 D post o (k - 1) (n - 6) r15 M) b14 (some b10) M)))) b10 a1 a2 M)))))))) a2 M)))) a0 M)
set_option maxHeartbeats 4000000 in
set_option maxRecDepth 100000 in
theorem w_X0_category {l : Launch} {D : zD} {post : Int32 → zM → Prop} (hlt : l.stackTraces = false) {k : Nat} {n : Nat} {o : Nat} {a0 : Int32} {a1 : Int32} {a2 : Int32} {M : zM} (hw : wp_X0_category D post k n o a0 a1 a2 M) : zMet l D yX0_category (ws_ yX0_category cX0_category 4 (some .int)) (rm_X0_category k n) k n [.ref o, .int a0, .int a1, .int a2] M zI post (fun _ _ => False) := by
  unfold wp_X0_category at hw
  have hlv : lv_args 0 [.ref o, .int a0, .int a1, .int a2] = [(0, .ref o), (1, .int a0), (2, .int a1), (3, .int a2)] := (zargs1 rfl (zargs1 rfl (zargs1 rfl (zargs1 rfl rfl))))
  refine z_ofW hlt (by decide) (Nat.le_trans (zsl1 rfl (zsl1 rfl (zsl1 rfl (zsl1 rfl (Nat.le_refl 0 : (lg_sl []).length ≤ 0))))) (Nat.le_of_ble_eq_true rfl)) hlv ?_
  intro p e s m args below meth c ls hG hZ hl
  have hC := hG.1
  have hx := hC.x
  have hb := hC.b
  have hown := hC.o
  have hts := hC.ts
  have hlt := hG.2.2.2.2.2
  obtain ⟨cells, hce⟩ : ∃ z : Nat, z = 0 := ⟨0, rfl⟩
  obtain ⟨slots, hsl⟩ : ∃ z : Nat, z = 0 := ⟨0, rfl⟩
  refine W.cs (cells' := cells) (slots' := slots) hce.symm hsl.symm ?_
  have hk : cells + k ≤ k := by omega
  have hn : slots + n ≤ n := by omega
  clear hce hsl
  refine lv_iload_n hx hb dX0_category_0 rfl (lv_at hl 1 rfl) ?_
  refine z_callI hZ (vx_runS (As := [.int a0]) (rest := []) hC.fix (w_X0_isLanguage hlt hw) (va_cwS 1 hts (lw_S q447 q448 q67 q449) rfl rfl rfl dd_X0_isLanguage ⟨Nat.le_of_ble_eq_true rfl, Nat.le_of_ble_eq_true rfl⟩) (z_preS hC hZ) rfl rfl hl.1 rfl (lv_room (Nat.zero_le _)) dX0_category_1 ⟨(show cells + 0 ≤ k by omega), (show slots + 0 ≤ n by omega)⟩) (fun r20 M H locs hw1 hZ => ?_) (fun q M H locs ci fs E T9 N9 hw hZ hc1 hM1 hb1 => False.elim hw)
  replace hw := hw1
  clear hw1
  refine W.cs (cells' := cells) (slots' := slots) rfl rfl ?_
  refine lv_if_eq (tgt := 35) hx hb dX0_category_4 (by decide) (fun c38 => ?_) (fun c38 => ?_)
  · replace hw := hw.1 c38
    exact wk_X0_category_L35 hG _ _ _ hk hn hZ (lv_sub hl [] rfl) hw
  · replace hw := hw.2 c38
    refine lv_iload_n hx hb dX0_category_7 rfl (lv_at hl 3 rfl) ?_
    refine z_callI hZ (vx_runS (As := [.int a2]) (rest := []) hC.fix (w_X0_isScale hlt hw) (va_cwS 1 hts (lw_S q430 q431 q67 q432) rfl rfl rfl dd_X0_isScale ⟨Nat.le_of_ble_eq_true rfl, Nat.le_of_ble_eq_true rfl⟩) (z_preS hC hZ) rfl rfl hl.1 rfl (lv_room (Nat.zero_le _)) dX0_category_8 ⟨(show cells + 0 ≤ k by omega), (show slots + 0 ≤ n by omega)⟩) (fun r23 M H locs hw1 hZ => ?_) (fun q M H locs ci fs E T9 N9 hw hZ hc1 hM1 hb1 => False.elim hw)
    replace hw := hw1
    clear hw1
    refine W.cs (cells' := cells) (slots' := slots) rfl rfl ?_
    refine lv_if_eq (tgt := 35) hx hb dX0_category_11 (by decide) (fun c37 => ?_) (fun c37 => ?_)
    · replace hw := hw.1 c37
      exact wk_X0_category_L35 hG _ _ _ hk hn hZ (lv_sub hl [] rfl) hw
    · replace hw := hw.2 c37
      refine lv_aload_n hx hb dX0_category_14 rfl (lv_at hl 0 rfl) ?_
      obtain ⟨fs0, g26, hM0, hx0, hw⟩ := hw
      refine z_get hC hZ hM0 zc0 0 (by decide) q399 (fun _ h9 => h9) hx0 dX0_category_15 ?_
      refine lv_iload_n hx hb dX0_category_18 rfl (lv_at hl 1 rfl) ?_
      obtain ⟨b27, hr0, hw⟩ := hw
      subst hr0
      obtain ⟨n0, f0, v28, hM0, hi0, hr0, hw⟩ := hw
      refine z_aald hC hZ hM0 (by decide) rfl hi0 hr0 dX0_category_19 ?_
      obtain ⟨hk1, hn1, hw⟩ := hw
      refine z_new (fs := [.int 0, .int 0, .long 0, .long 0, .int 0, .long 0]) hC hZ zc1 q128 q130 q68 (zdefs (N := 6) (ty := tyX1) (fs := [.int 0, .int 0, .long 0, .long 0, .int 0, .long 0]) (by decide)) (show cells + 1 ≤ k by omega) (show slots + 6 ≤ n by omega) dX0_category_20 (fun b29 H hq0 hq1 hZ => ?_)
      replace hw := hw b29 hq0 hq1
      generalize zu M _ _ = M at hw hZ
      have hk : cells + 1 + (k - 1) ≤ k := by omega
      have hn : slots + 6 + (n - 6) ≤ n := by omega
      generalize cells + 1 = cells at hk ⊢
      generalize slots + 6 = slots at hn ⊢
      clear hk1 hn1
      refine lv_dup hx hb dX0_category_23 rfl ?_
      refine lv_iload_n hx hb dX0_category_24 rfl (lv_at hl 2 rfl) ?_
      refine lv_iload_n hx hb dX0_category_25 rfl (lv_at hl 3 rfl) ?_
      refine z_callU hZ (vx_runI (As := [.int a1, .int a2]) (rest := [.ref b29, va_rf v28]) hC.fix (w_X1_init_2 hlt hw) (cwI 2 hts (lw_meth q136) rfl rfl rfl (hts _ q68) (hts _ q176) (hts _ q135) rfl dd_X1_init_2 ⟨Nat.le_of_ble_eq_true rfl, Nat.le_of_ble_eq_true rfl⟩) (z_preS hC hZ) rfl rfl hl.1 rfl (lv_room (Nat.le_trans (zrm1 rfl (zrm1 (zcat _) zrm0)) (Nat.le_of_ble_eq_true rfl))) dX0_category_26 ⟨(show cells + 0 ≤ k by omega), (show slots + 0 ≤ n by omega)⟩) (fun r30 M H locs hw1 hZ => ?_) (fun q M H locs ci fs E T9 N9 hw hZ hc1 hM1 hb1 => False.elim hw)
      replace hw := hw1
      clear hw1
      refine W.cs (cells' := cells) (slots' := slots) rfl rfl ?_
      obtain ⟨b33, hr0, hw⟩ := hw
      subst hr0
      obtain ⟨⟨ci0, fs0, hci0, hM0⟩, hw⟩ := hw
      obtain ⟨C0, T0, N0, ty0, hc0, hsel0⟩ : ∃ (C0 : String) (T0 : u_T) (N0 : Nat) (ty0 : Nat → FieldType), zCls ci0 C0 T0 N0 ty0 ∧ Cond.selects C0 ⟨"PluralBranches$Language", "category", "(LPluralBranches$Decimal;)I"⟩ yX2_category ∈ lw_all := (zal ⟨_, _, _, _, zc2, q455⟩ (zal ⟨_, _, _, _, zc4, q454⟩ (zal ⟨_, _, _, _, zc5, q453⟩ (zal ⟨_, _, _, _, zc6, q456⟩ (za0)))) : ∀ ci ∈ [2, 4, 5, 6], ∃ (C0 : String) (T0 : u_T) (N0 : Nat) (ty0 : Nat → FieldType), zCls ci C0 T0 N0 ty0 ∧ Cond.selects C0 ⟨"PluralBranches$Language", "category", "(LPluralBranches$Decimal;)I"⟩ yX2_category ∈ lw_all) ci0 hci0
      refine z_callI hZ (vx_runU (As := [.ref b29]) (rest := []) hC.fix (w_X2_category hlt hw) (va_cwU (owner := "PluralBranches$Language") (x := ⟨"PluralBranches$Language", "category", "(LPluralBranches$Decimal;)I"⟩) 1 hts (lw_app (zal q450 (zal q452 (zal hsel0 (zal q451 (zal q70 za0))))) (lw_meth q457)) rfl rfl rfl rfl (by decide +kernel) ⟨Nat.le_of_ble_eq_true rfl, Nat.le_of_ble_eq_true rfl⟩) (z_preV hC hZ hM0 hc0) rfl rfl hl.1 rfl (lv_room (Nat.zero_le _)) dX0_category_29 ⟨(show cells + 0 ≤ k by omega), (show slots + 0 ≤ n by omega)⟩) (fun r34 M H locs hw1 hZ => ?_) (fun q M H locs ci fs E T9 N9 hw hZ hc1 hM1 hb1 => False.elim hw)
      replace hw := hw1
      clear hw1
      refine W.cs (cells' := cells) (slots' := slots) rfl rfl ?_
      refine lv_goto (tgt := 36) hx hb dX0_category_32 (by decide) ?_
      exact wk_X0_category_L36 hG _ _ _ _ hk hn hZ (lv_sub hl [] rfl) hw
abbrev rm_X21_kind : Room := { frames := 1, cells := 0, slots := 0, locals := 64 }
def wp_X21_kind (D : zD) (post : Int32 → zM → Prop) (o : Nat) (M : zM) : Prop :=
    post (1 : Int32) M
set_option maxHeartbeats 4000000 in
set_option maxRecDepth 100000 in
theorem w_X21_kind {l : Launch} {D : zD} {post : Int32 → zM → Prop} (hlt : l.stackTraces = false) {o : Nat} {M : zM} (hw : wp_X21_kind D post o M) : zMet l D yX21_kind (ws_ yX21_kind cX21_kind 1 (some .int)) rm_X21_kind 0 0 [.ref o] M zI post (fun _ _ => False) := by
  unfold wp_X21_kind at hw
  have hlv : lv_args 0 [.ref o] = [(0, .ref o)] := (zargs1 rfl rfl)
  refine z_ofW hlt (by decide) (Nat.le_trans (zsl1 rfl (Nat.le_refl 0 : (lg_sl []).length ≤ 0)) (Nat.le_of_ble_eq_true rfl)) hlv ?_
  intro p e s m args below meth c ls hG hZ hl
  have hC := hG.1
  have hx := hC.x
  have hb := hC.b
  have hown := hC.o
  have hts := hC.ts
  have hlt := hG.2.2.2.2.2
  obtain ⟨cells, hce⟩ : ∃ z : Nat, z = 0 := ⟨0, rfl⟩
  obtain ⟨slots, hsl⟩ : ∃ z : Nat, z = 0 := ⟨0, rfl⟩
  refine W.cs (cells' := cells) (slots' := slots) hce.symm hsl.symm ?_
  have hk : cells ≤ 0 := Nat.le_of_eq hce
  have hn : slots ≤ 0 := Nat.le_of_eq hsl
  clear hce hsl
  refine lv_iconst (v := 1) hx hb dX21_kind_0 (by decide) ?_
  exact z_iret hG hZ hk hn hw dX21_kind_1
abbrev rm_X22_kind : Room := { frames := 1, cells := 0, slots := 0, locals := 64 }
def wp_X22_kind (D : zD) (post : Int32 → zM → Prop) (o : Nat) (M : zM) : Prop :=
    post (2 : Int32) M
set_option maxHeartbeats 4000000 in
set_option maxRecDepth 100000 in
theorem w_X22_kind {l : Launch} {D : zD} {post : Int32 → zM → Prop} (hlt : l.stackTraces = false) {o : Nat} {M : zM} (hw : wp_X22_kind D post o M) : zMet l D yX22_kind (ws_ yX22_kind cX22_kind 1 (some .int)) rm_X22_kind 0 0 [.ref o] M zI post (fun _ _ => False) := by
  unfold wp_X22_kind at hw
  have hlv : lv_args 0 [.ref o] = [(0, .ref o)] := (zargs1 rfl rfl)
  refine z_ofW hlt (by decide) (Nat.le_trans (zsl1 rfl (Nat.le_refl 0 : (lg_sl []).length ≤ 0)) (Nat.le_of_ble_eq_true rfl)) hlv ?_
  intro p e s m args below meth c ls hG hZ hl
  have hC := hG.1
  have hx := hC.x
  have hb := hC.b
  have hown := hC.o
  have hts := hC.ts
  have hlt := hG.2.2.2.2.2
  obtain ⟨cells, hce⟩ : ∃ z : Nat, z = 0 := ⟨0, rfl⟩
  obtain ⟨slots, hsl⟩ : ∃ z : Nat, z = 0 := ⟨0, rfl⟩
  refine W.cs (cells' := cells) (slots' := slots) hce.symm hsl.symm ?_
  have hk : cells ≤ 0 := Nat.le_of_eq hce
  have hn : slots ≤ 0 := Nat.le_of_eq hsl
  clear hce hsl
  refine lv_iconst (v := 2) hx hb dX22_kind_0 (by decide) ?_
  exact z_iret hG hZ hk hn hw dX22_kind_1
abbrev rm_X0_choice : Room := { frames := 5, cells := 0, slots := 0, locals := 150 }
def wp_X0_choice_L19 (D : zD) (post : Int32 → zM → Prop) (o : Nat) (M : zM) : Prop :=
    post (-1 : Int32) M
set_option maxHeartbeats 4000000 in
set_option maxRecDepth 100000 in
theorem wk_X0_choice_L19 {p : Program} {l : Launch} {e : Env} {s : State} {m : MethodId} {args : Array Value} {below : List Frame} {meth : Method} {c : Code} {D : zD} {post : Int32 → zM → Prop} {o : Nat} (hG : zGx p l s m args meth c cX0_choice 5 "PluralBranches" D (some .int) "choice" []) : ∀ {H : Heap} {locs : List Loc} {cells slots : Nat} {ls : Array Slot} (M : zM), cells ≤ 0 → slots ≤ 0 → zS D M H locs → lv_has ls 5 [] → wp_X0_choice_L19 D post o M → W p l e rm_X0_choice s m args below meth c H locs cells slots (vx_MQ below (zQ D zI post) (zX D (fun _ _ => False)) args s 0 0 (zA D)) (F0 m 19 ls []) := by
  have hC := hG.1
  have hx := hC.x
  have hb := hC.b
  have hown := hC.o
  have hts := hC.ts
  have hlt := hG.2.2.2.2.2
  intro H locs cells slots ls M hk hn hZ hl hw
  refine lv_iconst (v := (-1)) hx hb dX0_choice_19 (by decide) ?_
  exact z_iret hG hZ hk hn hw dX0_choice_20
def wp_X0_choice_L83 (D : zD) (post : Int32 → zM → Prop) (o : Nat) (y0 : Int32) (M : zM) : Prop :=
    post y0 M
set_option maxHeartbeats 4000000 in
set_option maxRecDepth 100000 in
theorem wk_X0_choice_L83 {p : Program} {l : Launch} {e : Env} {s : State} {m : MethodId} {args : Array Value} {below : List Frame} {meth : Method} {c : Code} {D : zD} {post : Int32 → zM → Prop} {o : Nat} (hG : zGx p l s m args meth c cX0_choice 5 "PluralBranches" D (some .int) "choice" []) : ∀ {H : Heap} {locs : List Loc} {cells slots : Nat} {ls : Array Slot} (y0 : Int32) (M : zM), cells ≤ 0 → slots ≤ 0 → zS D M H locs → lv_has ls 5 [] → wp_X0_choice_L83 D post o y0 M → W p l e rm_X0_choice s m args below meth c H locs cells slots (vx_MQ below (zQ D zI post) (zX D (fun _ _ => False)) args s 0 0 (zA D)) (F0 m 83 ls [.int y0]) := by
  have hC := hG.1
  have hx := hC.x
  have hb := hC.b
  have hown := hC.o
  have hts := hC.ts
  have hlt := hG.2.2.2.2.2
  intro H locs cells slots ls y0 M hk hn hZ hl hw
  exact z_iret hG hZ hk hn hw dX0_choice_83
def wp_X0_choice_L75 (D : zD) (post : Int32 → zM → Prop) (o : Nat) (y0 : Int32) (M : zM) : Prop :=
    wp_X0_choice_L83 D post o y0 M
set_option maxHeartbeats 4000000 in
set_option maxRecDepth 100000 in
theorem wk_X0_choice_L75 {p : Program} {l : Launch} {e : Env} {s : State} {m : MethodId} {args : Array Value} {below : List Frame} {meth : Method} {c : Code} {D : zD} {post : Int32 → zM → Prop} {o : Nat} (hG : zGx p l s m args meth c cX0_choice 5 "PluralBranches" D (some .int) "choice" []) : ∀ {H : Heap} {locs : List Loc} {cells slots : Nat} {ls : Array Slot} (y0 : Int32) (M : zM), cells ≤ 0 → slots ≤ 0 → zS D M H locs → lv_has ls 5 [] → wp_X0_choice_L75 D post o y0 M → W p l e rm_X0_choice s m args below meth c H locs cells slots (vx_MQ below (zQ D zI post) (zX D (fun _ _ => False)) args s 0 0 (zA D)) (F0 m 75 ls [.int y0]) := by
  have hC := hG.1
  have hx := hC.x
  have hb := hC.b
  have hown := hC.o
  have hts := hC.ts
  have hlt := hG.2.2.2.2.2
  intro H locs cells slots ls y0 M hk hn hZ hl hw
  refine lv_goto (tgt := 83) hx hb dX0_choice_75 (by decide) ?_
  exact wk_X0_choice_L83 hG _ _ hk hn hZ (lv_sub hl [] rfl) hw
def wp_X0_choice (D : zD) (post : Int32 → zM → Prop) (o : Nat) (a0 : Int32) (a1 : Int32) (a2 : Int32) (M : zM) : Prop :=
    (wp_X0_isSlot D (fun r1 M => ((r1 = 0 → wp_X0_choice_L19 D post o M) ∧ (¬ r1 = 0 → (wp_X0_in D (fun r4 M => ((¬ r4 = 0 → ((zis M o [0] ∧ wp_X0_choiceOf D (fun r7 M => ((∀ b10 : Nat, r7 = some b10 → ((¬ a2 = 0 → ((¬ a2 = (1 : Int32) → ((¬ a2 = (2 : Int32) → (zgIm M b10 [(18, 1), (19, 1)] fun g11 => wp_X0_choice_L83 D post o g11 M)) ∧ (a2 = (2 : Int32) → (((zis M b10 [18] ∧ wp_X21_kind D (fun r12 M => wp_X0_choice_L75 D post o r12 M) b10 M) ∨ (zis M b10 [19] ∧ wp_X22_kind D (fun r15 M => wp_X0_choice_L75 D post o r15 M) b10 M)))))) ∧ (a2 = (1 : Int32) → (zgRm M b10 [(18, 0), (19, 0)] fun g19 => ((zd g19 fun b20 => (zis M b20 [26] ∧ wp_J3_size D (fun r21 M => wp_X0_choice_L83 D post o r21 M) b20 M))))))) ∧ (a2 = 0 → (zgIm M b10 [(18, 2), (19, 2)] fun g25 => wp_X0_choice_L83 D post o g25 M)))) ∧ (r7 = none → post (-2 : Int32) M))) o a0 a1 M))) ∧ (r4 = 0 → wp_X0_choice_L19 D post o M))) (a2.toInt64) (0 : Int64) (3 : Int64) M)))) a0 M)
set_option maxHeartbeats 4000000 in
set_option maxRecDepth 100000 in
theorem w_X0_choice {l : Launch} {D : zD} {post : Int32 → zM → Prop} (hlt : l.stackTraces = false) {o : Nat} {a0 : Int32} {a1 : Int32} {a2 : Int32} {M : zM} (hw : wp_X0_choice D post o a0 a1 a2 M) : zMet l D yX0_choice (ws_ yX0_choice cX0_choice 5 (some .int)) rm_X0_choice 0 0 [.ref o, .int a0, .int a1, .int a2] M zI post (fun _ _ => False) := by
  unfold wp_X0_choice at hw
  have hlv : lv_args 0 [.ref o, .int a0, .int a1, .int a2] = [(0, .ref o), (1, .int a0), (2, .int a1), (3, .int a2)] := (zargs1 rfl (zargs1 rfl (zargs1 rfl (zargs1 rfl rfl))))
  refine z_ofW hlt (by decide) (Nat.le_trans (zsl1 rfl (zsl1 rfl (zsl1 rfl (zsl1 rfl (Nat.le_refl 0 : (lg_sl []).length ≤ 0))))) (Nat.le_of_ble_eq_true rfl)) hlv ?_
  intro p e s m args below meth c ls hG hZ hl
  have hC := hG.1
  have hx := hC.x
  have hb := hC.b
  have hown := hC.o
  have hts := hC.ts
  have hlt := hG.2.2.2.2.2
  obtain ⟨cells, hce⟩ : ∃ z : Nat, z = 0 := ⟨0, rfl⟩
  obtain ⟨slots, hsl⟩ : ∃ z : Nat, z = 0 := ⟨0, rfl⟩
  refine W.cs (cells' := cells) (slots' := slots) hce.symm hsl.symm ?_
  have hk : cells ≤ 0 := Nat.le_of_eq hce
  have hn : slots ≤ 0 := Nat.le_of_eq hsl
  clear hce hsl
  refine lv_iload_n hx hb dX0_choice_0 rfl (lv_at hl 1 rfl) ?_
  refine z_callI hZ (vx_runS (As := [.int a0]) (rest := []) hC.fix (w_X0_isSlot hlt hw) (va_cwS 1 hts (lw_S q528 q529 q67 q530) rfl rfl rfl dd_X0_isSlot ⟨Nat.le_of_ble_eq_true rfl, Nat.le_of_ble_eq_true rfl⟩) (z_preS hC hZ) rfl rfl hl.1 rfl (lv_room (Nat.zero_le _)) dX0_choice_1 ⟨hk, hn⟩) (fun r29 M H locs hw1 hZ => ?_) (fun q M H locs ci fs E T9 N9 hw hZ hc1 hM1 hb1 => False.elim hw)
  replace hw := hw1
  clear hw1
  refine W.cs (cells' := cells) (slots' := slots) rfl rfl ?_
  refine lv_if_eq (tgt := 19) hx hb dX0_choice_4 (by decide) (fun c56 => ?_) (fun c56 => ?_)
  · replace hw := hw.1 c56
    exact wk_X0_choice_L19 hG _ hk hn hZ (lv_sub hl [] rfl) hw
  · replace hw := hw.2 c56
    refine lv_iload_n hx hb dX0_choice_7 rfl (lv_at hl 3 rfl) ?_
    refine lv_i2l hx hb dX0_choice_8 rfl ?_
    refine lv_lconst (v := 0) hx hb dX0_choice_9 (by decide) ?_
    refine lv_ldc2 hx hb hown (hts _ q531) dX0_choice_10 ?_
    refine z_callI hZ (vx_runS (As := [.long (a2.toInt64), .long (0 : Int64), .long (3 : Int64)]) (rest := []) hC.fix (w_X0_in hlt hw) (va_cwS 3 hts (lw_S q434 q435 q67 q436) rfl rfl rfl dd_X0_in ⟨Nat.le_of_ble_eq_true rfl, Nat.le_of_ble_eq_true rfl⟩) (z_preS hC hZ) rfl rfl hl.1 rfl (lv_room (Nat.zero_le _)) dX0_choice_13 ⟨hk, hn⟩) (fun r32 M H locs hw1 hZ => ?_) (fun q M H locs ci fs E T9 N9 hw hZ hc1 hM1 hb1 => False.elim hw)
    replace hw := hw1
    clear hw1
    refine W.cs (cells' := cells) (slots' := slots) rfl rfl ?_
    refine lv_if_ne (tgt := 21) hx hb dX0_choice_16 (by decide) (fun c55 => ?_) (fun c55 => ?_)
    · replace hw := hw.1 c55
      refine lv_aload_n hx hb dX0_choice_21 rfl (lv_at hl 0 rfl) ?_
      refine lv_iload_n hx hb dX0_choice_22 rfl (lv_at hl 1 rfl) ?_
      refine lv_iload_n hx hb dX0_choice_23 rfl (lv_at hl 2 rfl) ?_
      obtain ⟨⟨ci0, fs0, hci0, hM0⟩, hw⟩ := hw
      obtain rfl : ci0 = 0 := List.mem_singleton.mp hci0
      refine z_callR hZ (vx_runV (As := [.int a0, .int a1]) (rest := []) hC.fix (w_X0_choiceOf hlt hw) (cwV 2 hts (lw_V q1092 q1094 qs22 q67 q1095) rfl rfl rfl ⟨rfl, dd_X0_choiceOf⟩ ⟨Nat.le_of_ble_eq_true rfl, Nat.le_of_ble_eq_true rfl⟩) (z_preV hC hZ hM0 zc0) rfl rfl hl.1 rfl (lv_room (Nat.zero_le _)) dX0_choice_24 ⟨hk, hn⟩) (fun r35 M H locs hw1 hZ => ?_) (fun q M H locs ci fs E T9 N9 hw hZ hc1 hM1 hb1 => False.elim hw)
      replace hw := hw1
      clear hw1
      refine W.cs (cells' := cells) (slots' := slots) rfl rfl ?_
      refine z_astore (i := 4) (lv' := [(4, va_rf r35), (0, .ref o), (1, .int a0), (2, .int a1), (3, .int a2)]) hC dX0_choice_27 hl (by decide) rfl (fun ls hl1 => ?_)
      replace hl := hl1
      clear hl1
      refine z_aload hC dX0_choice_29 (lv_at hl 0 rfl) ?_
      refine z_ifnonnull (tgt := 37) hC dX0_choice_31 (by decide) (fun b38 hr0 => ?_) (fun hr0 => ?_)
      · replace hw := hw.1 b38 hr0
        subst hr0
        refine lv_iload_n hx hb dX0_choice_37 rfl (lv_at hl 4 rfl) ?_
        refine lv_if_ne (tgt := 49) hx hb dX0_choice_38 (by decide) (fun c54 => ?_) (fun c54 => ?_)
        · replace hw := hw.1 c54
          refine lv_iload_n hx hb dX0_choice_49 rfl (lv_at hl 4 rfl) ?_
          refine lv_iconst (v := 1) hx hb dX0_choice_50 (by decide) ?_
          refine lv_icmp_ne (tgt := 65) hx hb dX0_choice_51 (by decide) (fun c52 => ?_) (fun c52 => ?_)
          · replace hw := hw.1 c52
            refine lv_iload_n hx hb dX0_choice_65 rfl (lv_at hl 4 rfl) ?_
            refine lv_iconst (v := 2) hx hb dX0_choice_66 (by decide) ?_
            refine lv_icmp_ne (tgt := 78) hx hb dX0_choice_67 (by decide) (fun c46 => ?_) (fun c46 => ?_)
            · replace hw := hw.1 c46
              refine lv_aload hx hb dX0_choice_78 (lv_at hl 0 rfl) ?_
              obtain ⟨q0, fs0, g39, hL0, hM0, hx0, hw⟩ := hw
              refine z_getNm hC hZ hM0 (L := [(18, 1), (19, 1)]) (ref := "PluralBranches$Choice") (index := 203) (zal (⟨_, _, _, _, zc18, by decide, q829, (fun _ h9 => h9)⟩) (zal (⟨_, _, _, _, zc19, by decide, q829, (fun _ h9 => h9)⟩) (za0))) hL0 hx0 dX0_choice_80 ?_
              exact wk_X0_choice_L83 hG _ _ hk hn hZ (lv_sub hl [] rfl) hw
            · replace hw := hw.2 c46
              refine lv_aload hx hb dX0_choice_70 (lv_at hl 0 rfl) ?_
              rcases hw with hw | hw
              · obtain ⟨⟨ci0, fs0, hci0, hM0⟩, hw⟩ := hw
                obtain ⟨C0, T0, N0, ty0, hc0, hsel0⟩ : ∃ (C0 : String) (T0 : u_T) (N0 : Nat) (ty0 : Nat → FieldType), zCls ci0 C0 T0 N0 ty0 ∧ Cond.selects C0 ⟨"PluralBranches$Choice", "kind", "()I"⟩ yX21_kind ∈ lw_all := (zal ⟨_, _, _, _, zc18, q857⟩ (za0) : ∀ ci ∈ [18], ∃ (C0 : String) (T0 : u_T) (N0 : Nat) (ty0 : Nat → FieldType), zCls ci C0 T0 N0 ty0 ∧ Cond.selects C0 ⟨"PluralBranches$Choice", "kind", "()I"⟩ yX21_kind ∈ lw_all) ci0 hci0
                refine z_callI hZ (vx_runU (As := []) (rest := []) hC.fix (w_X21_kind hlt hw) (va_cwA (owner := "PluralBranches$Choice") (x := ⟨"PluralBranches$Choice", "kind", "()I"⟩) 0 hts (lw_app (zal q1098 (zal q853 (zal hsel0 (zal q858 (zal q100 za0))))) (lw_meth q859)) rfl rfl rfl (hC.nw q852 rfl) (by decide +kernel) ⟨Nat.le_of_ble_eq_true rfl, Nat.le_of_ble_eq_true rfl⟩) (z_preV hC hZ hM0 hc0) rfl rfl hl.1 rfl (lv_room (Nat.zero_le _)) dX0_choice_72 ⟨hk, hn⟩) (fun r40 M H locs hw1 hZ => ?_) (fun q M H locs ci fs E T9 N9 hw hZ hc1 hM1 hb1 => False.elim hw)
                replace hw := hw1
                clear hw1
                refine W.cs (cells' := cells) (slots' := slots) rfl rfl ?_
                exact wk_X0_choice_L75 hG _ _ hk hn hZ (lv_sub hl [] rfl) hw
              · obtain ⟨⟨ci0, fs0, hci0, hM0⟩, hw⟩ := hw
                obtain ⟨C0, T0, N0, ty0, hc0, hsel0⟩ : ∃ (C0 : String) (T0 : u_T) (N0 : Nat) (ty0 : Nat → FieldType), zCls ci0 C0 T0 N0 ty0 ∧ Cond.selects C0 ⟨"PluralBranches$Choice", "kind", "()I"⟩ yX22_kind ∈ lw_all := (zal ⟨_, _, _, _, zc19, q854⟩ (za0) : ∀ ci ∈ [19], ∃ (C0 : String) (T0 : u_T) (N0 : Nat) (ty0 : Nat → FieldType), zCls ci C0 T0 N0 ty0 ∧ Cond.selects C0 ⟨"PluralBranches$Choice", "kind", "()I"⟩ yX22_kind ∈ lw_all) ci0 hci0
                refine z_callI hZ (vx_runU (As := []) (rest := []) hC.fix (w_X22_kind hlt hw) (va_cwA (owner := "PluralBranches$Choice") (x := ⟨"PluralBranches$Choice", "kind", "()I"⟩) 0 hts (lw_app (zal q1098 (zal q853 (zal hsel0 (zal q855 (zal q101 za0))))) (lw_meth q856)) rfl rfl rfl (hC.nw q852 rfl) (by decide +kernel) ⟨Nat.le_of_ble_eq_true rfl, Nat.le_of_ble_eq_true rfl⟩) (z_preV hC hZ hM0 hc0) rfl rfl hl.1 rfl (lv_room (Nat.zero_le _)) dX0_choice_72 ⟨hk, hn⟩) (fun r43 M H locs hw1 hZ => ?_) (fun q M H locs ci fs E T9 N9 hw hZ hc1 hM1 hb1 => False.elim hw)
                replace hw := hw1
                clear hw1
                refine W.cs (cells' := cells) (slots' := slots) rfl rfl ?_
                exact wk_X0_choice_L75 hG _ _ hk hn hZ (lv_sub hl [] rfl) hw
          · replace hw := hw.2 c52
            refine lv_aload hx hb dX0_choice_54 (lv_at hl 0 rfl) ?_
            obtain ⟨q0, fs0, g47, hL0, hM0, hx0, hw⟩ := hw
            refine z_getm hC hZ hM0 (L := [(18, 0), (19, 0)]) (ref := "PluralBranches$Choice") (index := 197) (zal (⟨_, _, _, _, zc18, by decide, q827, (fun _ h9 => h9)⟩) (zal (⟨_, _, _, _, zc19, by decide, q827, (fun _ h9 => h9)⟩) (za0))) hL0 hx0 dX0_choice_56 ?_
            obtain ⟨b48, hr0, hw⟩ := hw
            subst hr0
            obtain ⟨⟨ci0, fs0, hci0, hM0⟩, hw⟩ := hw
            obtain rfl : ci0 = 26 := List.mem_singleton.mp hci0
            refine z_callI hZ (vx_runV (As := []) (rest := []) hC.fix (w_J3_size hlt hw) (cwV 0 hts (lw_V q505 q464 q465 q74 q466) rfl rfl rfl ⟨rfl, dd_J3_size⟩ ⟨Nat.le_of_ble_eq_true rfl, Nat.le_of_ble_eq_true rfl⟩) (z_preV hC hZ hM0 zc26) rfl rfl hl.1 rfl (lv_room (Nat.zero_le _)) dX0_choice_59 ⟨hk, hn⟩) (fun r49 M H locs hw1 hZ => ?_) (fun q M H locs ci fs E T9 N9 hw hZ hc1 hM1 hb1 => False.elim hw)
            replace hw := hw1
            clear hw1
            refine W.cs (cells' := cells) (slots' := slots) rfl rfl ?_
            refine lv_goto (tgt := 83) hx hb dX0_choice_62 (by decide) ?_
            exact wk_X0_choice_L83 hG _ _ hk hn hZ (lv_sub hl [] rfl) hw
        · replace hw := hw.2 c54
          refine lv_aload hx hb dX0_choice_41 (lv_at hl 0 rfl) ?_
          obtain ⟨q0, fs0, g53, hL0, hM0, hx0, hw⟩ := hw
          refine z_getm hC hZ hM0 (L := [(18, 2), (19, 2)]) (ref := "PluralBranches$Choice") (index := 194) (zal (⟨_, _, _, _, zc18, by decide, q742, (u_same (hts _ q743))⟩) (zal (⟨_, _, _, _, zc19, by decide, q742, (u_same (hts _ q743))⟩) (za0))) hL0 hx0 dX0_choice_43 ?_
          refine lv_goto (tgt := 83) hx hb dX0_choice_46 (by decide) ?_
          exact wk_X0_choice_L83 hG _ _ hk hn hZ (lv_sub hl [] rfl) hw
      · replace hw := hw.2 hr0
        refine lv_bipush (v := (-2)) hx hb dX0_choice_34 (by decide) ?_
        exact z_iret hG hZ hk hn hw dX0_choice_36
    · replace hw := hw.2 c55
      exact wk_X0_choice_L19 hG _ hk hn hZ (lv_sub hl [] rfl) hw
abbrev rm_X4_init : Room := { frames := 1, cells := 0, slots := 0, locals := 64 }
def wp_X4_init (D : zD) (post : Unit → zM → Prop) (o : Nat) (a0 : Int32) (a1 : Option Nat) (M : zM) : Prop :=
    (narrow .boolean (.int a0) = .int a0 ∧ fits .boolean (.int a0) = true ∧ zp D M o 3 6 (.int a0) fun M => ((zd a1 fun b1 => zaI M b1 0 (0 : Int32) fun v2 => (zp D M o 3 0 (.int v2) fun M => (zaI M b1 0 (1 : Int32) fun v3 => (zp D M o 3 1 (.int v3) fun M => (zaI M b1 0 (2 : Int32) fun v4 => (zp D M o 3 2 (.int v4) fun M => (zaI M b1 0 (3 : Int32) fun v5 => (zp D M o 3 3 (.int v5) fun M => (zaI M b1 0 (4 : Int32) fun v6 => (zp D M o 3 4 (.int v6) fun M => (zaI M b1 0 (5 : Int32) fun v7 => (zp D M o 3 5 (.int v7) fun M => post () M))))))))))))))
set_option maxHeartbeats 4000000 in
set_option maxRecDepth 100000 in
theorem w_X4_init {l : Launch} {D : zD} {post : Unit → zM → Prop} (hlt : l.stackTraces = false) {o : Nat} {a0 : Int32} {a1 : Option Nat} {M : zM} (hw : wp_X4_init D post o a0 a1 M) : zMet l D yX4_init (ws_ yX4_init cX4_init 3 (none)) rm_X4_init 0 0 [.ref o, .int a0, va_rf a1] M zU post (fun _ _ => False) := by
  unfold wp_X4_init at hw
  have hlv : lv_args 0 [.ref o, .int a0, va_rf a1] = [(0, .ref o), (1, .int a0), (2, va_rf a1)] := (zargs1 rfl (zargs1 rfl (zargs1 (zcat _) rfl)))
  refine z_ofW hlt (by decide) (Nat.le_trans (zsl1 rfl (zsl1 rfl (zsl1 (zcat _) (Nat.le_refl 0 : (lg_sl []).length ≤ 0)))) (Nat.le_of_ble_eq_true rfl)) hlv ?_
  intro p e s m args below meth c ls hG hZ hl
  have hC := hG.1
  have hx := hC.x
  have hb := hC.b
  have hown := hC.o
  have hts := hC.ts
  have hlt := hG.2.2.2.2.2
  obtain ⟨cells, hce⟩ : ∃ z : Nat, z = 0 := ⟨0, rfl⟩
  obtain ⟨slots, hsl⟩ : ∃ z : Nat, z = 0 := ⟨0, rfl⟩
  refine W.cs (cells' := cells) (slots' := slots) hce.symm hsl.symm ?_
  have hk : cells ≤ 0 := Nat.le_of_eq hce
  have hn : slots ≤ 0 := Nat.le_of_eq hsl
  clear hce hsl
  refine lv_aload_n hx hb dX4_init_0 rfl (lv_at hl 0 rfl) ?_
  refine W.objInit hx hb hown (hts _ q311) (hts _ q124) (hts _ q125) rfl (by rw [hC.ml]; exact hl.1) rfl dX4_init_1 (Nat.le_of_ble_eq_true rfl) (Nat.le_of_ble_eq_true rfl) ?_
  refine W.eq (g2 := F0 m 4 ls []) rfl ?_
  refine lv_aload_n hx hb dX4_init_4 rfl (lv_at hl 0 rfl) ?_
  refine lv_iload_n hx hb dX4_init_5 rfl (lv_at hl 1 rfl) ?_
  obtain ⟨hn0, hf0, hw⟩ := hw
  obtain ⟨fs0, hM0, hb0, hk0, hw⟩ := hw
  refine z_putF hC hZ hM0 hb0 zc3 6 (by decide) q320 (fun _ h9 => h9) (by decide) hG.2.2.2.1 rfl hn0 hf0 hk0 dX4_init_6 (fun H locs hZ => ?_)
  generalize zu M _ _ = M at hw hZ
  refine lv_aload_n hx hb dX4_init_9 rfl (lv_at hl 0 rfl) ?_
  refine z_aload_n hC dX4_init_10 rfl (lv_at hl 2 rfl) ?_
  refine lv_iconst (v := 0) hx hb dX4_init_11 (by decide) ?_
  obtain ⟨b15, hr0, hw⟩ := hw
  subst hr0
  obtain ⟨n0, f0, hM0, hi0, hw⟩ := hw
  refine z_iald hC hZ hM0 hi0 dX4_init_12 ?_
  generalize f0 _ = v16 at hw ⊢
  obtain ⟨fs0, hM0, hb0, hk0, hw⟩ := hw
  refine z_putF hC hZ hM0 hb0 zc3 0 (by decide) q312 (fun _ h9 => h9) (by decide) hG.2.2.2.1 rfl rfl rfl hk0 dX4_init_13 (fun H locs hZ => ?_)
  generalize zu M _ _ = M at hw hZ
  refine lv_aload_n hx hb dX4_init_16 rfl (lv_at hl 0 rfl) ?_
  refine lv_aload_n hx hb dX4_init_17 rfl (lv_at hl 2 rfl) ?_
  refine lv_iconst (v := 1) hx hb dX4_init_18 (by decide) ?_
  obtain ⟨n0, f0, hM0, hi0, hw⟩ := hw
  refine z_iald hC hZ hM0 hi0 dX4_init_19 ?_
  generalize f0 _ = v17 at hw ⊢
  obtain ⟨fs0, hM0, hb0, hk0, hw⟩ := hw
  refine z_putF hC hZ hM0 hb0 zc3 1 (by decide) q314 (fun _ h9 => h9) (by decide) hG.2.2.2.1 rfl rfl rfl hk0 dX4_init_20 (fun H locs hZ => ?_)
  generalize zu M _ _ = M at hw hZ
  refine lv_aload_n hx hb dX4_init_23 rfl (lv_at hl 0 rfl) ?_
  refine lv_aload_n hx hb dX4_init_24 rfl (lv_at hl 2 rfl) ?_
  refine lv_iconst (v := 2) hx hb dX4_init_25 (by decide) ?_
  obtain ⟨n0, f0, hM0, hi0, hw⟩ := hw
  refine z_iald hC hZ hM0 hi0 dX4_init_26 ?_
  generalize f0 _ = v18 at hw ⊢
  obtain ⟨fs0, hM0, hb0, hk0, hw⟩ := hw
  refine z_putF hC hZ hM0 hb0 zc3 2 (by decide) q316 (fun _ h9 => h9) (by decide) hG.2.2.2.1 rfl rfl rfl hk0 dX4_init_27 (fun H locs hZ => ?_)
  generalize zu M _ _ = M at hw hZ
  refine lv_aload_n hx hb dX4_init_30 rfl (lv_at hl 0 rfl) ?_
  refine lv_aload_n hx hb dX4_init_31 rfl (lv_at hl 2 rfl) ?_
  refine lv_iconst (v := 3) hx hb dX4_init_32 (by decide) ?_
  obtain ⟨n0, f0, hM0, hi0, hw⟩ := hw
  refine z_iald hC hZ hM0 hi0 dX4_init_33 ?_
  generalize f0 _ = v19 at hw ⊢
  obtain ⟨fs0, hM0, hb0, hk0, hw⟩ := hw
  refine z_putF hC hZ hM0 hb0 zc3 3 (by decide) q317 (fun _ h9 => h9) (by decide) hG.2.2.2.1 rfl rfl rfl hk0 dX4_init_34 (fun H locs hZ => ?_)
  generalize zu M _ _ = M at hw hZ
  refine lv_aload_n hx hb dX4_init_37 rfl (lv_at hl 0 rfl) ?_
  refine lv_aload_n hx hb dX4_init_38 rfl (lv_at hl 2 rfl) ?_
  refine lv_iconst (v := 4) hx hb dX4_init_39 (by decide) ?_
  obtain ⟨n0, f0, hM0, hi0, hw⟩ := hw
  refine z_iald hC hZ hM0 hi0 dX4_init_40 ?_
  generalize f0 _ = v20 at hw ⊢
  obtain ⟨fs0, hM0, hb0, hk0, hw⟩ := hw
  refine z_putF hC hZ hM0 hb0 zc3 4 (by decide) q318 (fun _ h9 => h9) (by decide) hG.2.2.2.1 rfl rfl rfl hk0 dX4_init_41 (fun H locs hZ => ?_)
  generalize zu M _ _ = M at hw hZ
  refine lv_aload_n hx hb dX4_init_44 rfl (lv_at hl 0 rfl) ?_
  refine lv_aload_n hx hb dX4_init_45 rfl (lv_at hl 2 rfl) ?_
  refine lv_iconst (v := 5) hx hb dX4_init_46 (by decide) ?_
  obtain ⟨n0, f0, hM0, hi0, hw⟩ := hw
  refine z_iald hC hZ hM0 hi0 dX4_init_47 ?_
  generalize f0 _ = v21 at hw ⊢
  obtain ⟨fs0, hM0, hb0, hk0, hw⟩ := hw
  refine z_putF hC hZ hM0 hb0 zc3 5 (by decide) q319 (fun _ h9 => h9) (by decide) hG.2.2.2.1 rfl rfl rfl hk0 dX4_init_48 (fun H locs hZ => ?_)
  generalize zu M _ _ = M at hw hZ
  exact z_vret hG hZ hk hn hw dX4_init_51
abbrev rm_X2_with (K N : Nat) : Room := { frames := 8, cells := K, slots := N, locals := 216 }
def wp_X2_with (D : zD) (post : Option Nat → zM → Prop) (k : Nat) (n : Nat) (o : Nat) (a0 : Int32) (a1 : Option Nat) (M : zM) : Prop :=
    (zgRm M o [(2, 0), (4, 0), (5, 0), (6, 0)] fun g1 => (znew D M 3 7 [.int 0, .int 0, .int 0, .int 0, .int 0, .int 0, .int 0] k n fun b2 M => (wp_X4_init D (fun _ M => ((zd g1 fun b6 => (zis M b6 [26] ∧ (∃ k8 n9, k8 ≤ (k - 1) ∧ n9 ≤ (n - 7) ∧ wp_J3_add D (fun r7 M => post (some o) M) k8 n9 b6 (some b2) M))))) b2 a0 a1 M)))
set_option maxHeartbeats 4000000 in
set_option maxRecDepth 100000 in
theorem w_X2_with {l : Launch} {D : zD} {post : Option Nat → zM → Prop} (hlt : l.stackTraces = false) {k : Nat} {n : Nat} {o : Nat} {a0 : Int32} {a1 : Option Nat} {M : zM} (hw : wp_X2_with D post k n o a0 a1 M) : zMet l D yX2_with (ws_ yX2_with cX2_with 3 (some (.object "PluralBranches$Language"))) (rm_X2_with k n) k n [.ref o, .int a0, va_rf a1] M zR post (fun _ _ => False) := by
  unfold wp_X2_with at hw
  have hlv : lv_args 0 [.ref o, .int a0, va_rf a1] = [(0, .ref o), (1, .int a0), (2, va_rf a1)] := (zargs1 rfl (zargs1 rfl (zargs1 (zcat _) rfl)))
  refine z_ofW hlt (by decide) (Nat.le_trans (zsl1 rfl (zsl1 rfl (zsl1 (zcat _) (Nat.le_refl 0 : (lg_sl []).length ≤ 0)))) (Nat.le_of_ble_eq_true rfl)) hlv ?_
  intro p e s m args below meth c ls hG hZ hl
  have hC := hG.1
  have hx := hC.x
  have hb := hC.b
  have hown := hC.o
  have hts := hC.ts
  have hlt := hG.2.2.2.2.2
  obtain ⟨cells, hce⟩ : ∃ z : Nat, z = 0 := ⟨0, rfl⟩
  obtain ⟨slots, hsl⟩ : ∃ z : Nat, z = 0 := ⟨0, rfl⟩
  refine W.cs (cells' := cells) (slots' := slots) hce.symm hsl.symm ?_
  have hk : cells + k ≤ k := by omega
  have hn : slots + n ≤ n := by omega
  clear hce hsl
  refine lv_aload_n hx hb dX2_with_0 rfl (lv_at hl 0 rfl) ?_
  obtain ⟨q0, fs0, g10, hL0, hM0, hx0, hw⟩ := hw
  refine z_getm hC hZ hM0 (L := [(2, 0), (4, 0), (5, 0), (6, 0)]) (ref := "PluralBranches$Language") (index := 12) (zal (⟨_, _, _, _, zc2, by decide, q288, (fun _ h9 => h9)⟩) (zal (⟨_, _, _, _, zc4, by decide, q288, (fun _ h9 => h9)⟩) (zal (⟨_, _, _, _, zc5, by decide, q288, (fun _ h9 => h9)⟩) (zal (⟨_, _, _, _, zc6, by decide, q288, (fun _ h9 => h9)⟩) (za0))))) hL0 hx0 dX2_with_1 ?_
  obtain ⟨hk1, hn1, hw⟩ := hw
  refine z_new (fs := [.int 0, .int 0, .int 0, .int 0, .int 0, .int 0, .int 0]) hC hZ zc3 q306 q307 q78 (zdefs (N := 7) (ty := tyX4) (fs := [.int 0, .int 0, .int 0, .int 0, .int 0, .int 0, .int 0]) (by decide)) (show cells + 1 ≤ k by omega) (show slots + 7 ≤ n by omega) dX2_with_4 (fun b11 H hq0 hq1 hZ => ?_)
  replace hw := hw b11 hq0 hq1
  generalize zu M _ _ = M at hw hZ
  have hk : cells + 1 + (k - 1) ≤ k := by omega
  have hn : slots + 7 + (n - 7) ≤ n := by omega
  generalize cells + 1 = cells at hk ⊢
  generalize slots + 7 = slots at hn ⊢
  clear hk1 hn1
  refine lv_dup hx hb dX2_with_7 rfl ?_
  refine lv_iload_n hx hb dX2_with_8 rfl (lv_at hl 1 rfl) ?_
  refine z_aload_n hC dX2_with_9 rfl (lv_at hl 2 rfl) ?_
  refine z_callU hZ (vx_runI (As := [.int a0, va_rf a1]) (rest := [.ref b11, va_rf g10]) hC.fix (w_X4_init hlt hw) (cwI 2 hts (lw_meth q310) rfl rfl rfl (hts _ q78) (hts _ q308) (hts _ q309) rfl dd_X4_init ⟨Nat.le_of_ble_eq_true rfl, Nat.le_of_ble_eq_true rfl⟩) (z_preS hC hZ) rfl rfl hl.1 rfl (lv_room (Nat.le_trans (zrm1 rfl (zrm1 (zcat _) zrm0)) (Nat.le_of_ble_eq_true rfl))) dX2_with_10 ⟨(show cells + 0 ≤ k by omega), (show slots + 0 ≤ n by omega)⟩) (fun r12 M H locs hw1 hZ => ?_) (fun q M H locs ci fs E T9 N9 hw hZ hc1 hM1 hb1 => False.elim hw)
  replace hw := hw1
  clear hw1
  refine W.cs (cells' := cells) (slots' := slots) rfl rfl ?_
  obtain ⟨b15, hr0, hw⟩ := hw
  subst hr0
  obtain ⟨⟨ci0, fs0, hci0, hM0⟩, hw⟩ := hw
  obtain ⟨k17, n18, hk1, hn1, hw⟩ := hw
  obtain rfl : ci0 = 26 := List.mem_singleton.mp hci0
  refine z_callI hZ (vx_runV (As := [.ref b11]) (rest := []) hC.fix (w_J3_add hlt hw) (cwV 1 hts (lw_V q337 q338 q339 q74 q340) rfl rfl rfl ⟨rfl, dd_J3_add⟩ ⟨Nat.le_of_ble_eq_true rfl, Nat.le_of_ble_eq_true rfl⟩) (z_preV hC hZ hM0 zc26) rfl rfl hl.1 rfl (lv_room (Nat.zero_le _)) dX2_with_13 ⟨(show cells + k17 ≤ k by omega), (show slots + n18 ≤ n by omega)⟩) (fun r16 M H locs hw1 hZ => ?_) (fun q M H locs ci fs E T9 N9 hw hZ hc1 hM1 hb1 => False.elim hw)
  replace hw := hw1
  clear hw1
  have hk : cells + k17 + ((k - 1) - k17) ≤ k := by omega
  have hn : slots + n18 + ((n - 7) - n18) ≤ n := by omega
  generalize cells + k17 = cells at hk ⊢
  generalize slots + n18 = slots at hn ⊢
  clear hk1 hn1
  refine lv_pop hx hb dX2_with_16 rfl ?_
  refine lv_aload_n hx hb dX2_with_17 rfl (lv_at hl 0 rfl) ?_
  exact z_aret (r := (some o)) hG (Or.inl ⟨_, rfl⟩) hZ (by omega) (by omega) hw dX2_with_18
abbrev rm_X0_condition (K N : Nat) : Room := { frames := 9, cells := K, slots := N, locals := 238 }
def wp_X0_condition_L47 (D : zD) (post : Int32 → zM → Prop) (o : Nat) (k : Nat) (n : Nat) (M : zM) : Prop :=
    post (-1 : Int32) M
set_option maxHeartbeats 4000000 in
set_option maxRecDepth 100000 in
theorem wk_X0_condition_L47 {p : Program} {l : Launch} {e : Env} {s : State} {m : MethodId} {args : Array Value} {below : List Frame} {meth : Method} {c : Code} {D : zD} {post : Int32 → zM → Prop} {K N : Nat} {o : Nat} (hG : zGx p l s m args meth c cX0_condition 8 "PluralBranches" D (some .int) "condition" []) : ∀ {H : Heap} {locs : List Loc} {cells slots : Nat} {ls : Array Slot} (k : Nat) (n : Nat) (M : zM), cells + k ≤ K → slots + n ≤ N → zS D M H locs → lv_has ls 8 [] → wp_X0_condition_L47 D post o k n M → W p l e (rm_X0_condition K N) s m args below meth c H locs cells slots (vx_MQ below (zQ D zI post) (zX D (fun _ _ => False)) args s K N (zA D)) (F0 m 47 ls []) := by
  have hC := hG.1
  have hx := hC.x
  have hb := hC.b
  have hown := hC.o
  have hts := hC.ts
  have hlt := hG.2.2.2.2.2
  intro H locs cells slots ls k n M hk hn hZ hl hw
  refine lv_iconst (v := (-1)) hx hb dX0_condition_47 (by decide) ?_
  exact z_iret hG hZ (by omega) (by omega) hw dX0_condition_48
def wp_X0_condition_L92 (D : zD) (post : Int32 → zM → Prop) (o : Nat) (k : Nat) (n : Nat) (x1 : Int32) (x2 : Int32) (x3 : Int32) (x4 : Int32) (x5 : Int32) (x7 : Option Nat) (y0 : Option Nat) (y1 : Int32) (M : zM) : Prop :=
    (znewA D M 0 (6 : Int32) k n fun b1 M => (zsI D M b1 (0 : Int32) x1 fun M => (zsI D M b1 (1 : Int32) (0 : Int32) fun M => (zsI D M b1 (2 : Int32) x2 fun M => (zsI D M b1 (3 : Int32) x3 fun M => (zsI D M b1 (4 : Int32) x4 fun M => (zsI D M b1 (5 : Int32) x5 fun M => ((zd y0 fun b2 => (zis M b2 [2, 4, 5, 6] ∧ (∃ k4 n5, k4 ≤ (k - 1) ∧ n5 ≤ (n - (6 : Int32).toNatClampNeg) ∧ wp_X2_with D (fun r3 M => ((zd x7 fun b6 => (zis M b6 [26] ∧ wp_J3_size D (fun r7 M => post r7 M) b6 M)))) k4 n5 b2 y1 (some b1) M)))))))))))
set_option maxHeartbeats 4000000 in
set_option maxRecDepth 100000 in
theorem wk_X0_condition_L92 {p : Program} {l : Launch} {e : Env} {s : State} {m : MethodId} {args : Array Value} {below : List Frame} {meth : Method} {c : Code} {D : zD} {post : Int32 → zM → Prop} {K N : Nat} {o : Nat} (hG : zGx p l s m args meth c cX0_condition 8 "PluralBranches" D (some .int) "condition" []) : ∀ {H : Heap} {locs : List Loc} {cells slots : Nat} {ls : Array Slot} (k : Nat) (n : Nat) (x1 : Int32) (x2 : Int32) (x3 : Int32) (x4 : Int32) (x5 : Int32) (x7 : Option Nat) (y0 : Option Nat) (y1 : Int32) (M : zM), cells + k ≤ K → slots + n ≤ N → zS D M H locs → lv_has ls 8 [(1, .int x1), (2, .int x2), (3, .int x3), (4, .int x4), (5, .int x5), (7, va_rf x7)] → wp_X0_condition_L92 D post o k n x1 x2 x3 x4 x5 x7 y0 y1 M → W p l e (rm_X0_condition K N) s m args below meth c H locs cells slots (vx_MQ below (zQ D zI post) (zX D (fun _ _ => False)) args s K N (zA D)) (F0 m 92 ls [.int y1, va_rf y0]) := by
  have hC := hG.1
  have hx := hC.x
  have hb := hC.b
  have hown := hC.o
  have hts := hC.ts
  have hlt := hG.2.2.2.2.2
  intro H locs cells slots ls k n x1 x2 x3 x4 x5 x7 y0 y1 M hk hn hZ hl hw
  refine lv_bipush (v := 6) hx hb dX0_condition_92 (by decide) ?_
  obtain ⟨hx1, hx2, hk1, hn1, hw⟩ := hw
  refine z_newa (k := 0) (a0 := zna 0 (6 : Int32).toNatClampNeg) (atype := .int) hC hZ q336 rfl (by decide) (fun _ => rfl) hx1 rfl (z_bytes hx2 (by decide)) (show cells + 1 ≤ K by omega) (show slots + (6 : Int32).toNatClampNeg ≤ N by omega) dX0_condition_94 (fun b10 H hq0 hq1 hZ => ?_)
  replace hw := hw b10 hq0 hq1
  replace hZ : zS D (zu M b10 (some (.inl (0, zna 0 (6 : Int32).toNatClampNeg)))) _ _ := hZ
  refine W.cs (cells' := cells + 1) (slots' := slots + (6 : Int32).toNatClampNeg) rfl rfl ?_
  generalize zu M _ _ = M at hw hZ
  have hk : cells + 1 + (k - 1) ≤ K := by omega
  have hn : slots + (6 : Int32).toNatClampNeg + (n - (6 : Int32).toNatClampNeg) ≤ N := by omega
  generalize cells + 1 = cells at hk ⊢
  generalize slots + (6 : Int32).toNatClampNeg = slots at hn ⊢
  clear hk1 hn1 hx1 hx2
  refine lv_dup hx hb dX0_condition_96 rfl ?_
  refine lv_iconst (v := 0) hx hb dX0_condition_97 (by decide) ?_
  refine lv_iload_n hx hb dX0_condition_98 rfl (lv_at hl 0 rfl) ?_
  obtain ⟨n0, f0, hM0, hb0, hi0, hw⟩ := hw
  refine z_iast hC hZ hM0 hb0 hi0 dX0_condition_99 (fun H locs hZ => ?_)
  generalize zu M _ _ = M at hw hZ
  refine lv_dup hx hb dX0_condition_100 rfl ?_
  refine lv_iconst (v := 1) hx hb dX0_condition_101 (by decide) ?_
  refine lv_iconst (v := 0) hx hb dX0_condition_102 (by decide) ?_
  obtain ⟨n0, f0, hM0, hb0, hi0, hw⟩ := hw
  refine z_iast hC hZ hM0 hb0 hi0 dX0_condition_103 (fun H locs hZ => ?_)
  generalize zu M _ _ = M at hw hZ
  refine lv_dup hx hb dX0_condition_104 rfl ?_
  refine lv_iconst (v := 2) hx hb dX0_condition_105 (by decide) ?_
  refine lv_iload_n hx hb dX0_condition_106 rfl (lv_at hl 1 rfl) ?_
  obtain ⟨n0, f0, hM0, hb0, hi0, hw⟩ := hw
  refine z_iast hC hZ hM0 hb0 hi0 dX0_condition_107 (fun H locs hZ => ?_)
  generalize zu M _ _ = M at hw hZ
  refine lv_dup hx hb dX0_condition_108 rfl ?_
  refine lv_iconst (v := 3) hx hb dX0_condition_109 (by decide) ?_
  refine lv_iload_n hx hb dX0_condition_110 rfl (lv_at hl 2 rfl) ?_
  obtain ⟨n0, f0, hM0, hb0, hi0, hw⟩ := hw
  refine z_iast hC hZ hM0 hb0 hi0 dX0_condition_111 (fun H locs hZ => ?_)
  generalize zu M _ _ = M at hw hZ
  refine lv_dup hx hb dX0_condition_112 rfl ?_
  refine lv_iconst (v := 4) hx hb dX0_condition_113 (by decide) ?_
  refine lv_iload hx hb dX0_condition_114 (lv_at hl 3 rfl) ?_
  obtain ⟨n0, f0, hM0, hb0, hi0, hw⟩ := hw
  refine z_iast hC hZ hM0 hb0 hi0 dX0_condition_116 (fun H locs hZ => ?_)
  generalize zu M _ _ = M at hw hZ
  refine lv_dup hx hb dX0_condition_117 rfl ?_
  refine lv_iconst (v := 5) hx hb dX0_condition_118 (by decide) ?_
  refine lv_iload hx hb dX0_condition_119 (lv_at hl 4 rfl) ?_
  obtain ⟨n0, f0, hM0, hb0, hi0, hw⟩ := hw
  refine z_iast hC hZ hM0 hb0 hi0 dX0_condition_121 (fun H locs hZ => ?_)
  generalize zu M _ _ = M at hw hZ
  obtain ⟨b11, hr0, hw⟩ := hw
  subst hr0
  obtain ⟨⟨ci0, fs0, hci0, hM0⟩, hw⟩ := hw
  obtain ⟨k13, n14, hk1, hn1, hw⟩ := hw
  obtain ⟨C0, T0, N0, ty0, hc0, hsel0⟩ : ∃ (C0 : String) (T0 : u_T) (N0 : Nat) (ty0 : Nat → FieldType), zCls ci0 C0 T0 N0 ty0 ∧ Cond.selects C0 ⟨"PluralBranches$Language", "with", "(Z[I)LPluralBranches$Language;"⟩ yX2_with ∈ lw_all := (zal ⟨_, _, _, _, zc2, q2254⟩ (zal ⟨_, _, _, _, zc4, q2253⟩ (zal ⟨_, _, _, _, zc5, q2252⟩ (zal ⟨_, _, _, _, zc6, q2255⟩ (za0)))) : ∀ ci ∈ [2, 4, 5, 6], ∃ (C0 : String) (T0 : u_T) (N0 : Nat) (ty0 : Nat → FieldType), zCls ci C0 T0 N0 ty0 ∧ Cond.selects C0 ⟨"PluralBranches$Language", "with", "(Z[I)LPluralBranches$Language;"⟩ yX2_with ∈ lw_all) ci0 hci0
  refine z_callR hZ (vx_runU (As := [.int y1, .ref b10]) (rest := []) hC.fix (w_X2_with hlt hw) (va_cwU (owner := "PluralBranches$Language") (x := ⟨"PluralBranches$Language", "with", "(Z[I)LPluralBranches$Language;"⟩) 2 hts (lw_app (zal q349 (zal q2251 (zal hsel0 (zal q304 (zal q70 za0))))) (lw_meth q305)) rfl rfl rfl rfl (by decide +kernel) ⟨Nat.le_of_ble_eq_true rfl, Nat.le_of_ble_eq_true rfl⟩) (z_preV hC hZ hM0 hc0) rfl rfl hl.1 rfl (lv_room (Nat.zero_le _)) dX0_condition_122 ⟨(show cells + k13 ≤ K by omega), (show slots + n14 ≤ N by omega)⟩) (fun r12 M H locs hw1 hZ => ?_) (fun q M H locs ci fs E T9 N9 hw hZ hc1 hM1 hb1 => False.elim hw)
  replace hw := hw1
  clear hw1
  have hk : cells + k13 + ((k - 1) - k13) ≤ K := by omega
  have hn : slots + n14 + ((n - (6 : Int32).toNatClampNeg) - n14) ≤ N := by omega
  generalize cells + k13 = cells at hk ⊢
  generalize slots + n14 = slots at hn ⊢
  clear hk1 hn1
  refine lv_pop hx hb dX0_condition_125 (zcat _) ?_
  refine z_aload hC dX0_condition_126 (lv_at hl 5 rfl) ?_
  obtain ⟨b15, hr0, hw⟩ := hw
  subst hr0
  obtain ⟨⟨ci0, fs0, hci0, hM0⟩, hw⟩ := hw
  obtain rfl : ci0 = 26 := List.mem_singleton.mp hci0
  refine z_callI hZ (vx_runV (As := []) (rest := []) hC.fix (w_J3_size hlt hw) (cwV 0 hts (lw_V q505 q464 q465 q74 q466) rfl rfl rfl ⟨rfl, dd_J3_size⟩ ⟨Nat.le_of_ble_eq_true rfl, Nat.le_of_ble_eq_true rfl⟩) (z_preV hC hZ hM0 zc26) rfl rfl hl.1 rfl (lv_room (Nat.zero_le _)) dX0_condition_128 ⟨(show cells + 0 ≤ K by omega), (show slots + 0 ≤ N by omega)⟩) (fun r16 M H locs hw1 hZ => ?_) (fun q M H locs ci fs E T9 N9 hw hZ hc1 hM1 hb1 => False.elim hw)
  replace hw := hw1
  clear hw1
  refine W.cs (cells' := cells) (slots' := slots) rfl rfl ?_
  exact z_iret hG hZ (by omega) (by omega) hw dX0_condition_131
def wp_X0_condition (D : zD) (post : Int32 → zM → Prop) (k : Nat) (n : Nat) (o : Nat) (a0 : Int32) (a1 : Int32) (a2 : Int32) (a3 : Int32) (a4 : Int32) (a5 : Int32) (M : zM) : Prop :=
    (wp_X0_in D (fun r19 M => ((r19 = 0 → wp_X0_condition_L47 D post o k n M) ∧ (¬ r19 = 0 → (wp_X0_in D (fun r22 M => ((r22 = 0 → wp_X0_condition_L47 D post o k n M) ∧ (¬ r22 = 0 → (wp_X0_in D (fun r25 M => ((r25 = 0 → wp_X0_condition_L47 D post o k n M) ∧ (¬ r25 = 0 → (wp_X0_in D (fun r28 M => ((¬ r28 = 0 → (zgR M o 0 0 fun g31 => ((zd g31 fun b32 => zaR M b32 6 (6 : Int32) fun v33 => ((zd v33 fun b34 => zgRm M b34 [(2, 0), (4, 0), (5, 0), (6, 0)] fun g35 => ((zd g35 fun b36 => (zis M b36 [26] ∧ wp_J3_size D (fun r37 M => ((¬ r37 = (12 : Int32) → (zgR M o 0 0 fun g40 => ((zd g40 fun b41 => zaR M b41 6 (6 : Int32) fun v42 => ((¬ a5 = (1 : Int32) → wp_X0_condition_L92 D post o k n a0 a1 a2 a3 a4 (some b36) v42 (0 : Int32) M) ∧ (a5 = (1 : Int32) → wp_X0_condition_L92 D post o k n a0 a1 a2 a3 a4 (some b36) v42 (1 : Int32) M)))))) ∧ (r37 = (12 : Int32) → post (-3 : Int32) M))) b36 M))))))))) ∧ (r28 = 0 → wp_X0_condition_L47 D post o k n M))) (a5.toInt64) (0 : Int64) (1 : Int64) M)))) (a2.toInt64) (0 : Int64) (1000 : Int64) M)))) (a1.toInt64) (0 : Int64) (4 : Int64) M)))) (a0.toInt64) (0 : Int64) (4 : Int64) M)
set_option maxHeartbeats 4000000 in
set_option maxRecDepth 100000 in
theorem w_X0_condition {l : Launch} {D : zD} {post : Int32 → zM → Prop} (hlt : l.stackTraces = false) {k : Nat} {n : Nat} {o : Nat} {a0 : Int32} {a1 : Int32} {a2 : Int32} {a3 : Int32} {a4 : Int32} {a5 : Int32} {M : zM} (hw : wp_X0_condition D post k n o a0 a1 a2 a3 a4 a5 M) : zMet l D yX0_condition (ws_ yX0_condition cX0_condition 8 (some .int)) (rm_X0_condition k n) k n [.ref o, .int a0, .int a1, .int a2, .int a3, .int a4, .int a5] M zI post (fun _ _ => False) := by
  unfold wp_X0_condition at hw
  have hlv : lv_args 0 [.ref o, .int a0, .int a1, .int a2, .int a3, .int a4, .int a5] = [(0, .ref o), (1, .int a0), (2, .int a1), (3, .int a2), (4, .int a3), (5, .int a4), (6, .int a5)] := (zargs1 rfl (zargs1 rfl (zargs1 rfl (zargs1 rfl (zargs1 rfl (zargs1 rfl (zargs1 rfl rfl)))))))
  refine z_ofW hlt (by decide) (Nat.le_trans (zsl1 rfl (zsl1 rfl (zsl1 rfl (zsl1 rfl (zsl1 rfl (zsl1 rfl (zsl1 rfl (Nat.le_refl 0 : (lg_sl []).length ≤ 0)))))))) (Nat.le_of_ble_eq_true rfl)) hlv ?_
  intro p e s m args below meth c ls hG hZ hl
  have hC := hG.1
  have hx := hC.x
  have hb := hC.b
  have hown := hC.o
  have hts := hC.ts
  have hlt := hG.2.2.2.2.2
  obtain ⟨cells, hce⟩ : ∃ z : Nat, z = 0 := ⟨0, rfl⟩
  obtain ⟨slots, hsl⟩ : ∃ z : Nat, z = 0 := ⟨0, rfl⟩
  refine W.cs (cells' := cells) (slots' := slots) hce.symm hsl.symm ?_
  have hk : cells + k ≤ k := by omega
  have hn : slots + n ≤ n := by omega
  clear hce hsl
  refine lv_iload_n hx hb dX0_condition_0 rfl (lv_at hl 1 rfl) ?_
  refine lv_i2l hx hb dX0_condition_1 rfl ?_
  refine lv_lconst (v := 0) hx hb dX0_condition_2 (by decide) ?_
  refine lv_ldc2 hx hb hown (hts _ q437) dX0_condition_3 ?_
  refine z_callI hZ (vx_runS (As := [.long (a0.toInt64), .long (0 : Int64), .long (4 : Int64)]) (rest := []) hC.fix (w_X0_in hlt hw) (va_cwS 3 hts (lw_S q434 q435 q67 q436) rfl rfl rfl dd_X0_in ⟨Nat.le_of_ble_eq_true rfl, Nat.le_of_ble_eq_true rfl⟩) (z_preS hC hZ) rfl rfl hl.1 rfl (lv_room (Nat.zero_le _)) dX0_condition_6 ⟨(show cells + 0 ≤ k by omega), (show slots + 0 ≤ n by omega)⟩) (fun r49 M H locs hw1 hZ => ?_) (fun q M H locs ci fs E T9 N9 hw hZ hc1 hM1 hb1 => False.elim hw)
  replace hw := hw1
  clear hw1
  refine W.cs (cells' := cells) (slots' := slots) rfl rfl ?_
  refine lv_if_eq (tgt := 47) hx hb dX0_condition_9 (by decide) (fun c78 => ?_) (fun c78 => ?_)
  · replace hw := hw.1 c78
    exact wk_X0_condition_L47 hG _ _ _ hk hn hZ (lv_sub hl [] rfl) hw
  · replace hw := hw.2 c78
    refine lv_iload_n hx hb dX0_condition_12 rfl (lv_at hl 2 rfl) ?_
    refine lv_i2l hx hb dX0_condition_13 rfl ?_
    refine lv_lconst (v := 0) hx hb dX0_condition_14 (by decide) ?_
    refine lv_ldc2 hx hb hown (hts _ q437) dX0_condition_15 ?_
    refine z_callI hZ (vx_runS (As := [.long (a1.toInt64), .long (0 : Int64), .long (4 : Int64)]) (rest := []) hC.fix (w_X0_in hlt hw) (va_cwS 3 hts (lw_S q434 q435 q67 q436) rfl rfl rfl dd_X0_in ⟨Nat.le_of_ble_eq_true rfl, Nat.le_of_ble_eq_true rfl⟩) (z_preS hC hZ) rfl rfl hl.1 rfl (lv_room (Nat.zero_le _)) dX0_condition_18 ⟨(show cells + 0 ≤ k by omega), (show slots + 0 ≤ n by omega)⟩) (fun r52 M H locs hw1 hZ => ?_) (fun q M H locs ci fs E T9 N9 hw hZ hc1 hM1 hb1 => False.elim hw)
    replace hw := hw1
    clear hw1
    refine W.cs (cells' := cells) (slots' := slots) rfl rfl ?_
    refine lv_if_eq (tgt := 47) hx hb dX0_condition_21 (by decide) (fun c77 => ?_) (fun c77 => ?_)
    · replace hw := hw.1 c77
      exact wk_X0_condition_L47 hG _ _ _ hk hn hZ (lv_sub hl [] rfl) hw
    · replace hw := hw.2 c77
      refine lv_iload_n hx hb dX0_condition_24 rfl (lv_at hl 3 rfl) ?_
      refine lv_i2l hx hb dX0_condition_25 rfl ?_
      refine lv_lconst (v := 0) hx hb dX0_condition_26 (by decide) ?_
      refine lv_ldc2 hx hb hown (hts _ q504) dX0_condition_27 ?_
      refine z_callI hZ (vx_runS (As := [.long (a2.toInt64), .long (0 : Int64), .long (1000 : Int64)]) (rest := []) hC.fix (w_X0_in hlt hw) (va_cwS 3 hts (lw_S q434 q435 q67 q436) rfl rfl rfl dd_X0_in ⟨Nat.le_of_ble_eq_true rfl, Nat.le_of_ble_eq_true rfl⟩) (z_preS hC hZ) rfl rfl hl.1 rfl (lv_room (Nat.zero_le _)) dX0_condition_30 ⟨(show cells + 0 ≤ k by omega), (show slots + 0 ≤ n by omega)⟩) (fun r55 M H locs hw1 hZ => ?_) (fun q M H locs ci fs E T9 N9 hw hZ hc1 hM1 hb1 => False.elim hw)
      replace hw := hw1
      clear hw1
      refine W.cs (cells' := cells) (slots' := slots) rfl rfl ?_
      refine lv_if_eq (tgt := 47) hx hb dX0_condition_33 (by decide) (fun c76 => ?_) (fun c76 => ?_)
      · replace hw := hw.1 c76
        exact wk_X0_condition_L47 hG _ _ _ hk hn hZ (lv_sub hl [] rfl) hw
      · replace hw := hw.2 c76
        refine lv_iload hx hb dX0_condition_36 (lv_at hl 6 rfl) ?_
        refine lv_i2l hx hb dX0_condition_38 rfl ?_
        refine lv_lconst (v := 0) hx hb dX0_condition_39 (by decide) ?_
        refine lv_lconst (v := 1) hx hb dX0_condition_40 (by decide) ?_
        refine z_callI hZ (vx_runS (As := [.long (a5.toInt64), .long (0 : Int64), .long (1 : Int64)]) (rest := []) hC.fix (w_X0_in hlt hw) (va_cwS 3 hts (lw_S q434 q435 q67 q436) rfl rfl rfl dd_X0_in ⟨Nat.le_of_ble_eq_true rfl, Nat.le_of_ble_eq_true rfl⟩) (z_preS hC hZ) rfl rfl hl.1 rfl (lv_room (Nat.zero_le _)) dX0_condition_41 ⟨(show cells + 0 ≤ k by omega), (show slots + 0 ≤ n by omega)⟩) (fun r58 M H locs hw1 hZ => ?_) (fun q M H locs ci fs E T9 N9 hw hZ hc1 hM1 hb1 => False.elim hw)
        replace hw := hw1
        clear hw1
        refine W.cs (cells' := cells) (slots' := slots) rfl rfl ?_
        refine lv_if_ne (tgt := 49) hx hb dX0_condition_44 (by decide) (fun c75 => ?_) (fun c75 => ?_)
        · replace hw := hw.1 c75
          refine lv_aload_n hx hb dX0_condition_49 rfl (lv_at hl 0 rfl) ?_
          obtain ⟨fs0, g61, hM0, hx0, hw⟩ := hw
          refine z_get hC hZ hM0 zc0 0 (by decide) q399 (fun _ h9 => h9) hx0 dX0_condition_50 ?_
          refine lv_bipush (v := 6) hx hb dX0_condition_53 (by decide) ?_
          obtain ⟨b62, hr0, hw⟩ := hw
          subst hr0
          obtain ⟨n0, f0, v63, hM0, hi0, hr0, hw⟩ := hw
          refine z_aald hC hZ hM0 (by decide) rfl hi0 hr0 dX0_condition_55 ?_
          obtain ⟨b64, hr0, hw⟩ := hw
          subst hr0
          obtain ⟨q0, fs0, g65, hL0, hM0, hx0, hw⟩ := hw
          refine z_getm hC hZ hM0 (L := [(2, 0), (4, 0), (5, 0), (6, 0)]) (ref := "PluralBranches$Language") (index := 125) (zal (⟨_, _, _, _, zc2, by decide, q289, (fun _ h9 => h9)⟩) (zal (⟨_, _, _, _, zc4, by decide, q289, (fun _ h9 => h9)⟩) (zal (⟨_, _, _, _, zc5, by decide, q289, (fun _ h9 => h9)⟩) (zal (⟨_, _, _, _, zc6, by decide, q289, (fun _ h9 => h9)⟩) (za0))))) hL0 hx0 dX0_condition_56 ?_
          refine z_astore (i := 7) (lv' := [(7, va_rf g65), (0, .ref o), (1, .int a0), (2, .int a1), (3, .int a2), (4, .int a3), (5, .int a4), (6, .int a5)]) hC dX0_condition_59 hl (by decide) rfl (fun ls hl1 => ?_)
          replace hl := hl1
          clear hl1
          refine z_aload hC dX0_condition_61 (lv_at hl 0 rfl) ?_
          obtain ⟨b66, hr0, hw⟩ := hw
          subst hr0
          obtain ⟨⟨ci0, fs0, hci0, hM0⟩, hw⟩ := hw
          obtain rfl : ci0 = 26 := List.mem_singleton.mp hci0
          refine z_callI hZ (vx_runV (As := []) (rest := []) hC.fix (w_J3_size hlt hw) (cwV 0 hts (lw_V q505 q464 q465 q74 q466) rfl rfl rfl ⟨rfl, dd_J3_size⟩ ⟨Nat.le_of_ble_eq_true rfl, Nat.le_of_ble_eq_true rfl⟩) (z_preV hC hZ hM0 zc26) rfl rfl hl.1 rfl (lv_room (Nat.zero_le _)) dX0_condition_63 ⟨(show cells + 0 ≤ k by omega), (show slots + 0 ≤ n by omega)⟩) (fun r67 M H locs hw1 hZ => ?_) (fun q M H locs ci fs E T9 N9 hw hZ hc1 hM1 hb1 => False.elim hw)
          replace hw := hw1
          clear hw1
          refine W.cs (cells' := cells) (slots' := slots) rfl rfl ?_
          refine lv_bipush (v := 12) hx hb dX0_condition_66 (by decide) ?_
          refine lv_icmp_ne (tgt := 74) hx hb dX0_condition_68 (by decide) (fun c74 => ?_) (fun c74 => ?_)
          · replace hw := hw.1 c74
            refine lv_aload_n hx hb dX0_condition_74 rfl (lv_at hl 1 rfl) ?_
            obtain ⟨fs0, g70, hM0, hx0, hw⟩ := hw
            refine z_get hC hZ hM0 zc0 0 (by decide) q399 (fun _ h9 => h9) hx0 dX0_condition_75 ?_
            refine lv_bipush (v := 6) hx hb dX0_condition_78 (by decide) ?_
            obtain ⟨b71, hr0, hw⟩ := hw
            subst hr0
            obtain ⟨n0, f0, v72, hM0, hi0, hr0, hw⟩ := hw
            refine z_aald hC hZ hM0 (by decide) rfl hi0 hr0 dX0_condition_80 ?_
            refine lv_iload hx hb dX0_condition_81 (lv_at hl 7 rfl) ?_
            refine lv_iconst (v := 1) hx hb dX0_condition_83 (by decide) ?_
            refine lv_icmp_ne (tgt := 91) hx hb dX0_condition_84 (by decide) (fun c73 => ?_) (fun c73 => ?_)
            · replace hw := hw.1 c73
              refine lv_iconst (v := 0) hx hb dX0_condition_91 (by decide) ?_
              exact wk_X0_condition_L92 hG _ _ _ _ _ _ _ _ _ _ _ hk hn hZ (lv_sub hl [2, 3, 4, 5, 6, 0] rfl) hw
            · replace hw := hw.2 c73
              refine lv_iconst (v := 1) hx hb dX0_condition_87 (by decide) ?_
              refine lv_goto (tgt := 92) hx hb dX0_condition_88 (by decide) ?_
              exact wk_X0_condition_L92 hG _ _ _ _ _ _ _ _ _ _ _ hk hn hZ (lv_sub hl [2, 3, 4, 5, 6, 0] rfl) hw
          · replace hw := hw.2 c74
            refine lv_bipush (v := (-3)) hx hb dX0_condition_71 (by decide) ?_
            exact z_iret hG hZ (by omega) (by omega) hw dX0_condition_73
        · replace hw := hw.2 c75
          exact wk_X0_condition_L47 hG _ _ _ hk hn hZ (lv_sub hl [] rfl) hw
abbrev rm_X0_copy : Room := { frames := 3, cells := 0, slots := 0, locals := 109 }
def wp_X0_copy_L14 (D : zD) (post : Int32 → zM → Prop) (o : Nat) (M : zM) : Prop :=
    post (-1 : Int32) M
set_option maxHeartbeats 4000000 in
set_option maxRecDepth 100000 in
theorem wk_X0_copy_L14 {p : Program} {l : Launch} {e : Env} {s : State} {m : MethodId} {args : Array Value} {below : List Frame} {meth : Method} {c : Code} {D : zD} {post : Int32 → zM → Prop} {o : Nat} (hG : zGx p l s m args meth c cX0_copy 3 "PluralBranches" D (some .int) "copy" []) : ∀ {H : Heap} {locs : List Loc} {cells slots : Nat} {ls : Array Slot} (M : zM), cells ≤ 0 → slots ≤ 0 → zS D M H locs → lv_has ls 3 [] → wp_X0_copy_L14 D post o M → W p l e rm_X0_copy s m args below meth c H locs cells slots (vx_MQ below (zQ D zI post) (zX D (fun _ _ => False)) args s 0 0 (zA D)) (F0 m 14 ls []) := by
  have hC := hG.1
  have hx := hC.x
  have hb := hC.b
  have hown := hC.o
  have hts := hC.ts
  have hlt := hG.2.2.2.2.2
  intro H locs cells slots ls M hk hn hZ hl hw
  refine lv_iconst (v := (-1)) hx hb dX0_copy_14 (by decide) ?_
  exact z_iret hG hZ hk hn hw dX0_copy_15
def wp_X0_copy (D : zD) (post : Int32 → zM → Prop) (o : Nat) (a0 : Int32) (a1 : Int32) (M : zM) : Prop :=
    (wp_X0_isSlot D (fun r1 M => ((r1 = 0 → wp_X0_copy_L14 D post o M) ∧ (¬ r1 = 0 → (wp_X0_isSlot D (fun r4 M => ((¬ r4 = 0 → (zgR M o 0 5 fun g7 => ((zd g7 fun b8 => zaR M b8 8 a1 fun v9 => ((∀ b10 : Nat, v9 = some b10 → (zgR M o 0 5 fun g11 => (zgR M o 0 5 fun g12 => ((zd g12 fun b13 => zaR M b13 8 a1 fun v14 => ((zd g11 fun b15 => zsR D M b15 8 a0 v14 fun M => (zgR M o 0 5 fun g16 => ((zd g16 fun b17 => zaR M b17 8 a0 fun v18 => ((zd v18 fun b19 => zgI M b19 10 1 fun g20 => post g20 M)))))))))))) ∧ (v9 = none → post (-2 : Int32) M)))))) ∧ (r4 = 0 → wp_X0_copy_L14 D post o M))) a1 M)))) a0 M)
set_option maxHeartbeats 4000000 in
set_option maxRecDepth 100000 in
theorem w_X0_copy {l : Launch} {D : zD} {post : Int32 → zM → Prop} (hlt : l.stackTraces = false) {o : Nat} {a0 : Int32} {a1 : Int32} {M : zM} (hw : wp_X0_copy D post o a0 a1 M) : zMet l D yX0_copy (ws_ yX0_copy cX0_copy 3 (some .int)) rm_X0_copy 0 0 [.ref o, .int a0, .int a1] M zI post (fun _ _ => False) := by
  unfold wp_X0_copy at hw
  have hlv : lv_args 0 [.ref o, .int a0, .int a1] = [(0, .ref o), (1, .int a0), (2, .int a1)] := (zargs1 rfl (zargs1 rfl (zargs1 rfl rfl)))
  refine z_ofW hlt (by decide) (Nat.le_trans (zsl1 rfl (zsl1 rfl (zsl1 rfl (Nat.le_refl 0 : (lg_sl []).length ≤ 0)))) (Nat.le_of_ble_eq_true rfl)) hlv ?_
  intro p e s m args below meth c ls hG hZ hl
  have hC := hG.1
  have hx := hC.x
  have hb := hC.b
  have hown := hC.o
  have hts := hC.ts
  have hlt := hG.2.2.2.2.2
  obtain ⟨cells, hce⟩ : ∃ z : Nat, z = 0 := ⟨0, rfl⟩
  obtain ⟨slots, hsl⟩ : ∃ z : Nat, z = 0 := ⟨0, rfl⟩
  refine W.cs (cells' := cells) (slots' := slots) hce.symm hsl.symm ?_
  have hk : cells ≤ 0 := Nat.le_of_eq hce
  have hn : slots ≤ 0 := Nat.le_of_eq hsl
  clear hce hsl
  refine lv_iload_n hx hb dX0_copy_0 rfl (lv_at hl 1 rfl) ?_
  refine z_callI hZ (vx_runS (As := [.int a0]) (rest := []) hC.fix (w_X0_isSlot hlt hw) (va_cwS 1 hts (lw_S q528 q529 q67 q530) rfl rfl rfl dd_X0_isSlot ⟨Nat.le_of_ble_eq_true rfl, Nat.le_of_ble_eq_true rfl⟩) (z_preS hC hZ) rfl rfl hl.1 rfl (lv_room (Nat.zero_le _)) dX0_copy_1 ⟨hk, hn⟩) (fun r23 M H locs hw1 hZ => ?_) (fun q M H locs ci fs E T9 N9 hw hZ hc1 hM1 hb1 => False.elim hw)
  replace hw := hw1
  clear hw1
  refine W.cs (cells' := cells) (slots' := slots) rfl rfl ?_
  refine lv_if_eq (tgt := 14) hx hb dX0_copy_4 (by decide) (fun c44 => ?_) (fun c44 => ?_)
  · replace hw := hw.1 c44
    exact wk_X0_copy_L14 hG _ hk hn hZ (lv_sub hl [] rfl) hw
  · replace hw := hw.2 c44
    refine lv_iload_n hx hb dX0_copy_7 rfl (lv_at hl 2 rfl) ?_
    refine z_callI hZ (vx_runS (As := [.int a1]) (rest := []) hC.fix (w_X0_isSlot hlt hw) (va_cwS 1 hts (lw_S q528 q529 q67 q530) rfl rfl rfl dd_X0_isSlot ⟨Nat.le_of_ble_eq_true rfl, Nat.le_of_ble_eq_true rfl⟩) (z_preS hC hZ) rfl rfl hl.1 rfl (lv_room (Nat.zero_le _)) dX0_copy_8 ⟨hk, hn⟩) (fun r26 M H locs hw1 hZ => ?_) (fun q M H locs ci fs E T9 N9 hw hZ hc1 hM1 hb1 => False.elim hw)
    replace hw := hw1
    clear hw1
    refine W.cs (cells' := cells) (slots' := slots) rfl rfl ?_
    refine lv_if_ne (tgt := 16) hx hb dX0_copy_11 (by decide) (fun c43 => ?_) (fun c43 => ?_)
    · replace hw := hw.1 c43
      refine lv_aload_n hx hb dX0_copy_16 rfl (lv_at hl 0 rfl) ?_
      obtain ⟨fs0, g29, hM0, hx0, hw⟩ := hw
      refine z_get hC hZ hM0 zc0 5 (by decide) q406 (fun _ h9 => h9) hx0 dX0_copy_17 ?_
      refine lv_iload_n hx hb dX0_copy_20 rfl (lv_at hl 2 rfl) ?_
      obtain ⟨b30, hr0, hw⟩ := hw
      subst hr0
      obtain ⟨n0, f0, v31, hM0, hi0, hr0, hw⟩ := hw
      refine z_aald hC hZ hM0 (by decide) rfl hi0 hr0 dX0_copy_21 ?_
      refine z_ifnonnull (tgt := 28) hC dX0_copy_22 (by decide) (fun b32 hr0 => ?_) (fun hr0 => ?_)
      · replace hw := hw.1 b32 hr0
        subst hr0
        refine lv_aload_n hx hb dX0_copy_28 rfl (lv_at hl 0 rfl) ?_
        obtain ⟨fs0, g33, hM0, hx0, hw⟩ := hw
        refine z_get hC hZ hM0 zc0 5 (by decide) q406 (fun _ h9 => h9) hx0 dX0_copy_29 ?_
        refine lv_iload_n hx hb dX0_copy_32 rfl (lv_at hl 1 rfl) ?_
        refine lv_aload_n hx hb dX0_copy_33 rfl (lv_at hl 0 rfl) ?_
        obtain ⟨fs0, g34, hM0, hx0, hw⟩ := hw
        refine z_get hC hZ hM0 zc0 5 (by decide) q406 (fun _ h9 => h9) hx0 dX0_copy_34 ?_
        refine lv_iload_n hx hb dX0_copy_37 rfl (lv_at hl 2 rfl) ?_
        obtain ⟨b35, hr0, hw⟩ := hw
        subst hr0
        obtain ⟨n0, f0, v36, hM0, hi0, hr0, hw⟩ := hw
        refine z_aald hC hZ hM0 (by decide) rfl hi0 hr0 dX0_copy_38 ?_
        obtain ⟨b37, hr0, hw⟩ := hw
        subst hr0
        obtain ⟨n0, f0, hM0, hb0, hi0, hv0, hw⟩ := hw
        refine z_aastO (r := v36) hC hZ hM0 hb0 rfl hv0 hi0 dX0_copy_39 (fun H locs hZ => ?_)
        generalize zu M _ _ = M at hw hZ
        refine lv_aload_n hx hb dX0_copy_40 rfl (lv_at hl 0 rfl) ?_
        obtain ⟨fs0, g38, hM0, hx0, hw⟩ := hw
        refine z_get hC hZ hM0 zc0 5 (by decide) q406 (fun _ h9 => h9) hx0 dX0_copy_41 ?_
        refine lv_iload_n hx hb dX0_copy_44 rfl (lv_at hl 1 rfl) ?_
        obtain ⟨b39, hr0, hw⟩ := hw
        subst hr0
        obtain ⟨n0, f0, v40, hM0, hi0, hr0, hw⟩ := hw
        refine z_aald hC hZ hM0 (by decide) rfl hi0 hr0 dX0_copy_45 ?_
        obtain ⟨b41, hr0, hw⟩ := hw
        subst hr0
        obtain ⟨fs0, g42, hM0, hx0, hw⟩ := hw
        refine z_getN hC hZ hM0 zc10 1 (by decide) q549 (fun _ h9 => h9) hx0 dX0_copy_46 ?_
        exact z_iret hG hZ hk hn hw dX0_copy_49
      · replace hw := hw.2 hr0
        refine lv_bipush (v := (-2)) hx hb dX0_copy_25 (by decide) ?_
        exact z_iret hG hZ hk hn hw dX0_copy_27
    · replace hw := hw.2 c43
      exact wk_X0_copy_L14 hG _ hk hn hZ (lv_sub hl [] rfl) hw
abbrev rm_X0_count : Room := { frames := 2, cells := 0, slots := 0, locals := 84 }
def wp_X0_count_L64 (D : zD) (post : Int32 → zM → Prop) (o : Nat) (k42 : Int32 → Int32 → zM → Prop) (x3 : Int32) (y0 : Int32) (y1 : Int32) (M : zM) : Prop :=
    k42 (y0 ||| y1) (x3 + 1) M
set_option maxHeartbeats 4000000 in
set_option maxRecDepth 100000 in
theorem wk_X0_count_L64 {p : Program} {l : Launch} {e : Env} {s : State} {m : MethodId} {args : Array Value} {below : List Frame} {meth : Method} {c : Code} {D : zD} {post : Int32 → zM → Prop} {o : Nat} (hG : zGx p l s m args meth c cX0_count 4 "PluralBranches" D (some .int) "count" []) (k42 : Int32 → Int32 → zM → Prop) (hk42 : ∀ {H : Heap} {locs : List Loc} {cells slots : Nat} {ls : Array Slot} (x2 : Int32) (x3 : Int32) (M : zM), cells ≤ 0 → slots ≤ 0 → zS D M H locs → lv_has ls 4 [(0, .ref o), (2, .int x2), (3, .int x3)] → k42 x2 x3 M → W p l e rm_X0_count s m args below meth c H locs cells slots (vx_MQ below (zQ D zI post) (zX D (fun _ _ => False)) args s 0 0 (zA D)) (F0 m 42 ls [])) : ∀ {H : Heap} {locs : List Loc} {cells slots : Nat} {ls : Array Slot} (x3 : Int32) (y0 : Int32) (y1 : Int32) (M : zM), cells ≤ 0 → slots ≤ 0 → zS D M H locs → lv_has ls 4 [(0, .ref o), (3, .int x3)] → wp_X0_count_L64 D post o k42 x3 y0 y1 M → W p l e rm_X0_count s m args below meth c H locs cells slots (vx_MQ below (zQ D zI post) (zX D (fun _ _ => False)) args s 0 0 (zA D)) (F0 m 64 ls [.int y1, .int y0]) := by
  have hC := hG.1
  have hx := hC.x
  have hb := hC.b
  have hown := hC.o
  have hts := hC.ts
  have hlt := hG.2.2.2.2.2
  intro H locs cells slots ls x3 y0 y1 M hk hn hZ hl hw
  refine lv_ior hx hb dX0_count_64 ?_
  refine lv_istore_n (i := 2) (lv' := [(2, .int (y0 ||| y1)), (0, .ref o), (3, .int x3)]) hx hb dX0_count_65 rfl hl (by decide) rfl (fun ls hl1 => ?_)
  replace hl := hl1
  clear hl1
  refine lv_iinc (v := (x3 + 1)) (lv' := [(3, .int (x3 + 1)), (2, .int (y0 ||| y1)), (0, .ref o)]) hx hb dX0_count_66 hl (k := 2) rfl rfl (by decide) rfl (fun ls hl1 => ?_)
  replace hl := hl1
  clear hl1
  refine lv_goto (tgt := 42) hx hb dX0_count_69 (by decide) ?_
  exact hk42 _ _ _ hk hn hZ (lv_sub hl [2, 1, 0] rfl) hw
def wp_X0_count_L42 (D : zD) (post : Int32 → zM → Prop) (o : Nat) : Nat → Int32 → Int32 → zM → Prop
  | 0 => fun _ _ _ => False
  | f + 1 => fun x2 x3 M =>
    (((4 : Int32) ≤ x3 → post x2 M) ∧ (¬ (4 : Int32) ≤ x3 → (zgR M o 0 5 fun g1 => ((zd g1 fun b2 => zaR M b2 8 x3 fun v3 => ((∀ b4 : Nat, v3 = some b4 → wp_X0_count_L64 D post o (wp_X0_count_L42 D post o f) x3 x2 ((1 : Int32) <<< (x3 &&& 31)) M) ∧ (v3 = none → wp_X0_count_L64 D post o (wp_X0_count_L42 D post o f) x3 x2 (0 : Int32) M)))))))
set_option maxHeartbeats 4000000 in
set_option maxRecDepth 100000 in
theorem wk_X0_count_L42 {p : Program} {l : Launch} {e : Env} {s : State} {m : MethodId} {args : Array Value} {below : List Frame} {meth : Method} {c : Code} {D : zD} {post : Int32 → zM → Prop} {o : Nat} (hG : zGx p l s m args meth c cX0_count 4 "PluralBranches" D (some .int) "count" []) : ∀ (f : Nat), ∀ {H : Heap} {locs : List Loc} {cells slots : Nat} {ls : Array Slot} (x2 : Int32) (x3 : Int32) (M : zM), cells ≤ 0 → slots ≤ 0 → zS D M H locs → lv_has ls 4 [(0, .ref o), (2, .int x2), (3, .int x3)] → wp_X0_count_L42 D post o f x2 x3 M → W p l e rm_X0_count s m args below meth c H locs cells slots (vx_MQ below (zQ D zI post) (zX D (fun _ _ => False)) args s 0 0 (zA D)) (F0 m 42 ls []) := by
  have hC := hG.1
  have hx := hC.x
  have hb := hC.b
  have hown := hC.o
  have hts := hC.ts
  have hlt := hG.2.2.2.2.2
  intro f
  induction f with
  | zero =>
    intro H locs cells slots ls x2 x3 M hk hn hZ hl hw
    exact absurd hw (fun h => h)
  | succ f ih =>
    intro H locs cells slots ls x2 x3 M hk hn hZ hl hw
    refine lv_iload_n hx hb dX0_count_42 rfl (lv_at hl 2 rfl) ?_
    refine lv_iconst (v := 4) hx hb dX0_count_43 (by decide) ?_
    refine lv_icmp_ge (tgt := 72) hx hb dX0_count_44 (by decide) (fun c10 => ?_) (fun c10 => ?_)
    · replace hw := hw.1 c10
      refine lv_iload_n hx hb dX0_count_72 rfl (lv_at hl 1 rfl) ?_
      exact z_iret hG hZ hk hn hw dX0_count_73
    · replace hw := hw.2 c10
      refine lv_iload_n hx hb dX0_count_47 rfl (lv_at hl 1 rfl) ?_
      refine lv_aload_n hx hb dX0_count_48 rfl (lv_at hl 0 rfl) ?_
      obtain ⟨fs0, g6, hM0, hx0, hw⟩ := hw
      refine z_get hC hZ hM0 zc0 5 (by decide) q406 (fun _ h9 => h9) hx0 dX0_count_49 ?_
      refine lv_iload_n hx hb dX0_count_52 rfl (lv_at hl 2 rfl) ?_
      obtain ⟨b7, hr0, hw⟩ := hw
      subst hr0
      obtain ⟨n0, f0, v8, hM0, hi0, hr0, hw⟩ := hw
      refine z_aald hC hZ hM0 (by decide) rfl hi0 hr0 dX0_count_53 ?_
      refine z_ifnonnull (tgt := 61) hC dX0_count_54 (by decide) (fun b9 hr0 => ?_) (fun hr0 => ?_)
      · replace hw := hw.1 b9 hr0
        subst hr0
        refine lv_iconst (v := 1) hx hb dX0_count_61 (by decide) ?_
        refine lv_iload_n hx hb dX0_count_62 rfl (lv_at hl 2 rfl) ?_
        refine lv_ishl hx hb dX0_count_63 ?_
        exact wk_X0_count_L64 hG _ (fun {_ _ _ _ _} _z0 _z1 _z2 h1 h2 h3 h4 h5 => ih _z0 _z1 _z2 h1 h2 h3 h4 h5) _ _ _ _ hk hn hZ (lv_sub hl [0, 2] rfl) hw
      · replace hw := hw.2 hr0
        refine lv_iconst (v := 0) hx hb dX0_count_57 (by decide) ?_
        refine lv_goto (tgt := 64) hx hb dX0_count_58 (by decide) ?_
        exact wk_X0_count_L64 hG _ (fun {_ _ _ _ _} _z0 _z1 _z2 h1 h2 h3 h4 h5 => ih _z0 _z1 _z2 h1 h2 h3 h4 h5) _ _ _ _ hk hn hZ (lv_sub hl [0, 2] rfl) hw
def wp_X0_count_L98 (D : zD) (post : Int32 → zM → Prop) (o : Nat) (k76 : Int32 → Int32 → zM → Prop) (x3 : Int32) (y0 : Int32) (y1 : Int32) (M : zM) : Prop :=
    k76 (y0 ||| y1) (x3 + 1) M
set_option maxHeartbeats 4000000 in
set_option maxRecDepth 100000 in
theorem wk_X0_count_L98 {p : Program} {l : Launch} {e : Env} {s : State} {m : MethodId} {args : Array Value} {below : List Frame} {meth : Method} {c : Code} {D : zD} {post : Int32 → zM → Prop} {o : Nat} (hG : zGx p l s m args meth c cX0_count 4 "PluralBranches" D (some .int) "count" []) (k76 : Int32 → Int32 → zM → Prop) (hk76 : ∀ {H : Heap} {locs : List Loc} {cells slots : Nat} {ls : Array Slot} (x2 : Int32) (x3 : Int32) (M : zM), cells ≤ 0 → slots ≤ 0 → zS D M H locs → lv_has ls 4 [(0, .ref o), (2, .int x2), (3, .int x3)] → k76 x2 x3 M → W p l e rm_X0_count s m args below meth c H locs cells slots (vx_MQ below (zQ D zI post) (zX D (fun _ _ => False)) args s 0 0 (zA D)) (F0 m 76 ls [])) : ∀ {H : Heap} {locs : List Loc} {cells slots : Nat} {ls : Array Slot} (x3 : Int32) (y0 : Int32) (y1 : Int32) (M : zM), cells ≤ 0 → slots ≤ 0 → zS D M H locs → lv_has ls 4 [(0, .ref o), (3, .int x3)] → wp_X0_count_L98 D post o k76 x3 y0 y1 M → W p l e rm_X0_count s m args below meth c H locs cells slots (vx_MQ below (zQ D zI post) (zX D (fun _ _ => False)) args s 0 0 (zA D)) (F0 m 98 ls [.int y1, .int y0]) := by
  have hC := hG.1
  have hx := hC.x
  have hb := hC.b
  have hown := hC.o
  have hts := hC.ts
  have hlt := hG.2.2.2.2.2
  intro H locs cells slots ls x3 y0 y1 M hk hn hZ hl hw
  refine lv_ior hx hb dX0_count_98 ?_
  refine lv_istore_n (i := 2) (lv' := [(2, .int (y0 ||| y1)), (0, .ref o), (3, .int x3)]) hx hb dX0_count_99 rfl hl (by decide) rfl (fun ls hl1 => ?_)
  replace hl := hl1
  clear hl1
  refine lv_iinc (v := (x3 + 1)) (lv' := [(3, .int (x3 + 1)), (2, .int (y0 ||| y1)), (0, .ref o)]) hx hb dX0_count_100 hl (k := 2) rfl rfl (by decide) rfl (fun ls hl1 => ?_)
  replace hl := hl1
  clear hl1
  refine lv_goto (tgt := 76) hx hb dX0_count_103 (by decide) ?_
  exact hk76 _ _ _ hk hn hZ (lv_sub hl [2, 1, 0] rfl) hw
def wp_X0_count_L76 (D : zD) (post : Int32 → zM → Prop) (o : Nat) : Nat → Int32 → Int32 → zM → Prop
  | 0 => fun _ _ _ => False
  | f + 1 => fun x2 x3 M =>
    (((5 : Int32) ≤ x3 → post x2 M) ∧ (¬ (5 : Int32) ≤ x3 → (zgR M o 0 6 fun g11 => ((zd g11 fun b12 => zaR M b12 9 x3 fun v13 => ((∀ b14 : Nat, v13 = some b14 → wp_X0_count_L98 D post o (wp_X0_count_L76 D post o f) x3 x2 ((1 : Int32) <<< (x3 &&& 31)) M) ∧ (v13 = none → wp_X0_count_L98 D post o (wp_X0_count_L76 D post o f) x3 x2 (0 : Int32) M)))))))
set_option maxHeartbeats 4000000 in
set_option maxRecDepth 100000 in
theorem wk_X0_count_L76 {p : Program} {l : Launch} {e : Env} {s : State} {m : MethodId} {args : Array Value} {below : List Frame} {meth : Method} {c : Code} {D : zD} {post : Int32 → zM → Prop} {o : Nat} (hG : zGx p l s m args meth c cX0_count 4 "PluralBranches" D (some .int) "count" []) : ∀ (f : Nat), ∀ {H : Heap} {locs : List Loc} {cells slots : Nat} {ls : Array Slot} (x2 : Int32) (x3 : Int32) (M : zM), cells ≤ 0 → slots ≤ 0 → zS D M H locs → lv_has ls 4 [(0, .ref o), (2, .int x2), (3, .int x3)] → wp_X0_count_L76 D post o f x2 x3 M → W p l e rm_X0_count s m args below meth c H locs cells slots (vx_MQ below (zQ D zI post) (zX D (fun _ _ => False)) args s 0 0 (zA D)) (F0 m 76 ls []) := by
  have hC := hG.1
  have hx := hC.x
  have hb := hC.b
  have hown := hC.o
  have hts := hC.ts
  have hlt := hG.2.2.2.2.2
  intro f
  induction f with
  | zero =>
    intro H locs cells slots ls x2 x3 M hk hn hZ hl hw
    exact absurd hw (fun h => h)
  | succ f ih =>
    intro H locs cells slots ls x2 x3 M hk hn hZ hl hw
    refine lv_iload_n hx hb dX0_count_76 rfl (lv_at hl 2 rfl) ?_
    refine lv_iconst (v := 5) hx hb dX0_count_77 (by decide) ?_
    refine lv_icmp_ge (tgt := 106) hx hb dX0_count_78 (by decide) (fun c20 => ?_) (fun c20 => ?_)
    · replace hw := hw.1 c20
      refine lv_iload_n hx hb dX0_count_106 rfl (lv_at hl 1 rfl) ?_
      exact z_iret hG hZ hk hn hw dX0_count_107
    · replace hw := hw.2 c20
      refine lv_iload_n hx hb dX0_count_81 rfl (lv_at hl 1 rfl) ?_
      refine lv_aload_n hx hb dX0_count_82 rfl (lv_at hl 0 rfl) ?_
      obtain ⟨fs0, g16, hM0, hx0, hw⟩ := hw
      refine z_get hC hZ hM0 zc0 6 (by decide) q407 (fun _ h9 => h9) hx0 dX0_count_83 ?_
      refine lv_iload_n hx hb dX0_count_86 rfl (lv_at hl 2 rfl) ?_
      obtain ⟨b17, hr0, hw⟩ := hw
      subst hr0
      obtain ⟨n0, f0, v18, hM0, hi0, hr0, hw⟩ := hw
      refine z_aald hC hZ hM0 (by decide) rfl hi0 hr0 dX0_count_87 ?_
      refine z_ifnonnull (tgt := 95) hC dX0_count_88 (by decide) (fun b19 hr0 => ?_) (fun hr0 => ?_)
      · replace hw := hw.1 b19 hr0
        subst hr0
        refine lv_iconst (v := 1) hx hb dX0_count_95 (by decide) ?_
        refine lv_iload_n hx hb dX0_count_96 rfl (lv_at hl 2 rfl) ?_
        refine lv_ishl hx hb dX0_count_97 ?_
        exact wk_X0_count_L98 hG _ (fun {_ _ _ _ _} _z0 _z1 _z2 h1 h2 h3 h4 h5 => ih _z0 _z1 _z2 h1 h2 h3 h4 h5) _ _ _ _ hk hn hZ (lv_sub hl [0, 2] rfl) hw
      · replace hw := hw.2 hr0
        refine lv_iconst (v := 0) hx hb dX0_count_91 (by decide) ?_
        refine lv_goto (tgt := 98) hx hb dX0_count_92 (by decide) ?_
        exact wk_X0_count_L98 hG _ (fun {_ _ _ _ _} _z0 _z1 _z2 h1 h2 h3 h4 h5 => ih _z0 _z1 _z2 h1 h2 h3 h4 h5) _ _ _ _ hk hn hZ (lv_sub hl [0, 2] rfl) hw
def wp_X0_count_L157 (D : zD) (post : Int32 → zM → Prop) (o : Nat) (k134 : Int32 → Int32 → zM → Prop) (x3 : Int32) (y0 : Int32) (y1 : Int32) (M : zM) : Prop :=
    k134 (y0 + y1) (x3 + 1) M
set_option maxHeartbeats 4000000 in
set_option maxRecDepth 100000 in
theorem wk_X0_count_L157 {p : Program} {l : Launch} {e : Env} {s : State} {m : MethodId} {args : Array Value} {below : List Frame} {meth : Method} {c : Code} {D : zD} {post : Int32 → zM → Prop} {o : Nat} (hG : zGx p l s m args meth c cX0_count 4 "PluralBranches" D (some .int) "count" []) (k134 : Int32 → Int32 → zM → Prop) (hk134 : ∀ {H : Heap} {locs : List Loc} {cells slots : Nat} {ls : Array Slot} (x2 : Int32) (x3 : Int32) (M : zM), cells ≤ 0 → slots ≤ 0 → zS D M H locs → lv_has ls 4 [(0, .ref o), (2, .int x2), (3, .int x3)] → k134 x2 x3 M → W p l e rm_X0_count s m args below meth c H locs cells slots (vx_MQ below (zQ D zI post) (zX D (fun _ _ => False)) args s 0 0 (zA D)) (F0 m 134 ls [])) : ∀ {H : Heap} {locs : List Loc} {cells slots : Nat} {ls : Array Slot} (x3 : Int32) (y0 : Int32) (y1 : Int32) (M : zM), cells ≤ 0 → slots ≤ 0 → zS D M H locs → lv_has ls 4 [(0, .ref o), (3, .int x3)] → wp_X0_count_L157 D post o k134 x3 y0 y1 M → W p l e rm_X0_count s m args below meth c H locs cells slots (vx_MQ below (zQ D zI post) (zX D (fun _ _ => False)) args s 0 0 (zA D)) (F0 m 157 ls [.int y1, .int y0]) := by
  have hC := hG.1
  have hx := hC.x
  have hb := hC.b
  have hown := hC.o
  have hts := hC.ts
  have hlt := hG.2.2.2.2.2
  intro H locs cells slots ls x3 y0 y1 M hk hn hZ hl hw
  refine lv_iadd hx hb dX0_count_157 ?_
  refine lv_istore_n (i := 2) (lv' := [(2, .int (y0 + y1)), (0, .ref o), (3, .int x3)]) hx hb dX0_count_158 rfl hl (by decide) rfl (fun ls hl1 => ?_)
  replace hl := hl1
  clear hl1
  refine lv_iinc (v := (x3 + 1)) (lv' := [(3, .int (x3 + 1)), (2, .int (y0 + y1)), (0, .ref o)]) hx hb dX0_count_159 hl (k := 2) rfl rfl (by decide) rfl (fun ls hl1 => ?_)
  replace hl := hl1
  clear hl1
  refine lv_goto (tgt := 134) hx hb dX0_count_162 (by decide) ?_
  exact hk134 _ _ _ hk hn hZ (lv_sub hl [2, 1, 0] rfl) hw
def wp_X0_count_L134 (D : zD) (post : Int32 → zM → Prop) (o : Nat) : Nat → Int32 → Int32 → zM → Prop
  | 0 => fun _ _ _ => False
  | f + 1 => fun x2 x3 M =>
    (((3 : Int32) ≤ x3 → post x2 M) ∧ (¬ (3 : Int32) ≤ x3 → (zgR M o 0 7 fun g21 => ((zd g21 fun b22 => zaR M b22 10 x3 fun v23 => ((zd v23 fun b24 => zgR M b24 7 0 fun g25 => ((∀ b26 : Nat, g25 = some b26 → wp_X0_count_L157 D post o (wp_X0_count_L134 D post o f) x3 x2 (1 : Int32) M) ∧ (g25 = none → wp_X0_count_L157 D post o (wp_X0_count_L134 D post o f) x3 x2 (0 : Int32) M)))))))))
set_option maxHeartbeats 4000000 in
set_option maxRecDepth 100000 in
theorem wk_X0_count_L134 {p : Program} {l : Launch} {e : Env} {s : State} {m : MethodId} {args : Array Value} {below : List Frame} {meth : Method} {c : Code} {D : zD} {post : Int32 → zM → Prop} {o : Nat} (hG : zGx p l s m args meth c cX0_count 4 "PluralBranches" D (some .int) "count" []) : ∀ (f : Nat), ∀ {H : Heap} {locs : List Loc} {cells slots : Nat} {ls : Array Slot} (x2 : Int32) (x3 : Int32) (M : zM), cells ≤ 0 → slots ≤ 0 → zS D M H locs → lv_has ls 4 [(0, .ref o), (2, .int x2), (3, .int x3)] → wp_X0_count_L134 D post o f x2 x3 M → W p l e rm_X0_count s m args below meth c H locs cells slots (vx_MQ below (zQ D zI post) (zX D (fun _ _ => False)) args s 0 0 (zA D)) (F0 m 134 ls []) := by
  have hC := hG.1
  have hx := hC.x
  have hb := hC.b
  have hown := hC.o
  have hts := hC.ts
  have hlt := hG.2.2.2.2.2
  intro f
  induction f with
  | zero =>
    intro H locs cells slots ls x2 x3 M hk hn hZ hl hw
    exact absurd hw (fun h => h)
  | succ f ih =>
    intro H locs cells slots ls x2 x3 M hk hn hZ hl hw
    refine lv_iload_n hx hb dX0_count_134 rfl (lv_at hl 2 rfl) ?_
    refine lv_iconst (v := 3) hx hb dX0_count_135 (by decide) ?_
    refine lv_icmp_ge (tgt := 165) hx hb dX0_count_136 (by decide) (fun c34 => ?_) (fun c34 => ?_)
    · replace hw := hw.1 c34
      refine lv_iload_n hx hb dX0_count_165 rfl (lv_at hl 1 rfl) ?_
      exact z_iret hG hZ hk hn hw dX0_count_166
    · replace hw := hw.2 c34
      refine lv_iload_n hx hb dX0_count_139 rfl (lv_at hl 1 rfl) ?_
      refine lv_aload_n hx hb dX0_count_140 rfl (lv_at hl 0 rfl) ?_
      obtain ⟨fs0, g28, hM0, hx0, hw⟩ := hw
      refine z_get hC hZ hM0 zc0 7 (by decide) q408 (fun _ h9 => h9) hx0 dX0_count_141 ?_
      refine lv_iload_n hx hb dX0_count_144 rfl (lv_at hl 2 rfl) ?_
      obtain ⟨b29, hr0, hw⟩ := hw
      subst hr0
      obtain ⟨n0, f0, v30, hM0, hi0, hr0, hw⟩ := hw
      refine z_aald hC hZ hM0 (by decide) rfl hi0 hr0 dX0_count_145 ?_
      obtain ⟨b31, hr0, hw⟩ := hw
      subst hr0
      obtain ⟨fs0, g32, hM0, hx0, hw⟩ := hw
      refine z_getN hC hZ hM0 zc7 0 (by decide) q395 (fun _ h9 => h9) hx0 dX0_count_146 ?_
      refine z_ifnonnull (tgt := 156) hC dX0_count_149 (by decide) (fun b33 hr0 => ?_) (fun hr0 => ?_)
      · replace hw := hw.1 b33 hr0
        subst hr0
        refine lv_iconst (v := 1) hx hb dX0_count_156 (by decide) ?_
        exact wk_X0_count_L157 hG _ (fun {_ _ _ _ _} _z0 _z1 _z2 h1 h2 h3 h4 h5 => ih _z0 _z1 _z2 h1 h2 h3 h4 h5) _ _ _ _ hk hn hZ (lv_sub hl [0, 2] rfl) hw
      · replace hw := hw.2 hr0
        refine lv_iconst (v := 0) hx hb dX0_count_152 (by decide) ?_
        refine lv_goto (tgt := 157) hx hb dX0_count_153 (by decide) ?_
        exact wk_X0_count_L157 hG _ (fun {_ _ _ _ _} _z0 _z1 _z2 h1 h2 h3 h4 h5 => ih _z0 _z1 _z2 h1 h2 h3 h4 h5) _ _ _ _ hk hn hZ (lv_sub hl [0, 2] rfl) hw
def wp_X0_count (D : zD) (post : Int32 → zM → Prop) (o : Nat) (a0 : Int32) (M : zM) : Prop :=
    ((a0 = 0 → (∃ f, wp_X0_count_L42 D post o f (0 : Int32) (0 : Int32) M)) ∧ (a0 = 1 → (∃ f, wp_X0_count_L76 D post o f (0 : Int32) (0 : Int32) M)) ∧ (a0 = 2 → (zgI M o 0 4 fun g35 => post g35 M)) ∧ (a0 = 3 → (zgR M o 0 0 fun g36 => ((zd g36 fun b37 => zaR M b37 6 (6 : Int32) fun v38 => ((zd v38 fun b39 => zgRm M b39 [(2, 0), (4, 0), (5, 0), (6, 0)] fun g40 => ((zd g40 fun b41 => (zis M b41 [26] ∧ wp_J3_size D (fun r42 M => post r42 M) b41 M))))))))) ∧ (a0 = 4 → (zgI M o 0 2 fun g45 => post g45 M)) ∧ (a0 = 5 → (∃ f, wp_X0_count_L134 D post o f (0 : Int32) (0 : Int32) M)) ∧ (¬ a0 = 0 ∧ ¬ a0 = 1 ∧ ¬ a0 = 2 ∧ ¬ a0 = 3 ∧ ¬ a0 = 4 ∧ ¬ a0 = 5 → post (-1 : Int32) M))
set_option maxHeartbeats 4000000 in
set_option maxRecDepth 100000 in
theorem w_X0_count {l : Launch} {D : zD} {post : Int32 → zM → Prop} (hlt : l.stackTraces = false) {o : Nat} {a0 : Int32} {M : zM} (hw : wp_X0_count D post o a0 M) : zMet l D yX0_count (ws_ yX0_count cX0_count 4 (some .int)) rm_X0_count 0 0 [.ref o, .int a0] M zI post (fun _ _ => False) := by
  unfold wp_X0_count at hw
  have hlv : lv_args 0 [.ref o, .int a0] = [(0, .ref o), (1, .int a0)] := (zargs1 rfl (zargs1 rfl rfl))
  refine z_ofW hlt (by decide) (Nat.le_trans (zsl1 rfl (zsl1 rfl (Nat.le_refl 0 : (lg_sl []).length ≤ 0))) (Nat.le_of_ble_eq_true rfl)) hlv ?_
  intro p e s m args below meth c ls hG hZ hl
  have hC := hG.1
  have hx := hC.x
  have hb := hC.b
  have hown := hC.o
  have hts := hC.ts
  have hlt := hG.2.2.2.2.2
  obtain ⟨cells, hce⟩ : ∃ z : Nat, z = 0 := ⟨0, rfl⟩
  obtain ⟨slots, hsl⟩ : ∃ z : Nat, z = 0 := ⟨0, rfl⟩
  refine W.cs (cells' := cells) (slots' := slots) hce.symm hsl.symm ?_
  have hk : cells ≤ 0 := Nat.le_of_eq hce
  have hn : slots ≤ 0 := Nat.le_of_eq hsl
  clear hce hsl
  refine lv_iconst (v := 0) hx hb dX0_count_0 (by decide) ?_
  refine lv_istore_n (i := 2) (lv' := [(2, .int (0 : Int32)), (0, .ref o), (1, .int a0)]) hx hb dX0_count_1 rfl hl (by decide) rfl (fun ls hl1 => ?_)
  replace hl := hl1
  clear hl1
  refine lv_iload_n hx hb dX0_count_2 rfl (lv_at hl 2 rfl) ?_
  by_cases e63 : a0 = 0
  · replace hw := hw.1 e63
    refine lv_tableIn (tgt := 40) (off := 37) hx hb dX0_count_3 (by rw [e63]; decide) (by rw [e63]; decide) (by rw [e63]; decide) (by decide) ?_
    refine lv_iconst (v := 0) hx hb dX0_count_40 (by decide) ?_
    refine lv_istore_n (i := 3) (lv' := [(3, .int (0 : Int32)), (2, .int (0 : Int32)), (0, .ref o), (1, .int a0)]) hx hb dX0_count_41 rfl hl (by decide) rfl (fun ls hl1 => ?_)
    replace hl := hl1
    clear hl1
    obtain ⟨f1, hw⟩ := hw
    exact wk_X0_count_L42 hG f1 _ _ _ hk hn hZ (lv_sub hl [2, 1, 0] rfl) hw
  by_cases e64 : a0 = 1
  · replace hw := hw.2.1 e64
    refine lv_tableIn (tgt := 74) (off := 71) hx hb dX0_count_3 (by rw [e64]; decide) (by rw [e64]; decide) (by rw [e64]; decide) (by decide) ?_
    refine lv_iconst (v := 0) hx hb dX0_count_74 (by decide) ?_
    refine lv_istore_n (i := 3) (lv' := [(3, .int (0 : Int32)), (2, .int (0 : Int32)), (0, .ref o), (1, .int a0)]) hx hb dX0_count_75 rfl hl (by decide) rfl (fun ls hl1 => ?_)
    replace hl := hl1
    clear hl1
    obtain ⟨f1, hw⟩ := hw
    exact wk_X0_count_L76 hG f1 _ _ _ hk hn hZ (lv_sub hl [2, 1, 0] rfl) hw
  by_cases e65 : a0 = 2
  · replace hw := hw.2.2.1 e65
    refine lv_tableIn (tgt := 108) (off := 105) hx hb dX0_count_3 (by rw [e65]; decide) (by rw [e65]; decide) (by rw [e65]; decide) (by decide) ?_
    refine lv_aload_n hx hb dX0_count_108 rfl (lv_at hl 1 rfl) ?_
    obtain ⟨fs0, g52, hM0, hx0, hw⟩ := hw
    refine z_get hC hZ hM0 zc0 4 (by decide) q405 (fun _ h9 => h9) hx0 dX0_count_109 ?_
    exact z_iret hG hZ hk hn hw dX0_count_112
  by_cases e66 : a0 = 3
  · replace hw := hw.2.2.2.1 e66
    refine lv_tableIn (tgt := 113) (off := 110) hx hb dX0_count_3 (by rw [e66]; decide) (by rw [e66]; decide) (by rw [e66]; decide) (by decide) ?_
    refine lv_aload_n hx hb dX0_count_113 rfl (lv_at hl 1 rfl) ?_
    obtain ⟨fs0, g53, hM0, hx0, hw⟩ := hw
    refine z_get hC hZ hM0 zc0 0 (by decide) q399 (fun _ h9 => h9) hx0 dX0_count_114 ?_
    refine lv_bipush (v := 6) hx hb dX0_count_117 (by decide) ?_
    obtain ⟨b54, hr0, hw⟩ := hw
    subst hr0
    obtain ⟨n0, f0, v55, hM0, hi0, hr0, hw⟩ := hw
    refine z_aald hC hZ hM0 (by decide) rfl hi0 hr0 dX0_count_119 ?_
    obtain ⟨b56, hr0, hw⟩ := hw
    subst hr0
    obtain ⟨q0, fs0, g57, hL0, hM0, hx0, hw⟩ := hw
    refine z_getm hC hZ hM0 (L := [(2, 0), (4, 0), (5, 0), (6, 0)]) (ref := "PluralBranches$Language") (index := 125) (zal (⟨_, _, _, _, zc2, by decide, q289, (fun _ h9 => h9)⟩) (zal (⟨_, _, _, _, zc4, by decide, q289, (fun _ h9 => h9)⟩) (zal (⟨_, _, _, _, zc5, by decide, q289, (fun _ h9 => h9)⟩) (zal (⟨_, _, _, _, zc6, by decide, q289, (fun _ h9 => h9)⟩) (za0))))) hL0 hx0 dX0_count_120 ?_
    obtain ⟨b58, hr0, hw⟩ := hw
    subst hr0
    obtain ⟨⟨ci0, fs0, hci0, hM0⟩, hw⟩ := hw
    obtain rfl : ci0 = 26 := List.mem_singleton.mp hci0
    refine z_callI hZ (vx_runV (As := []) (rest := []) hC.fix (w_J3_size hlt hw) (cwV 0 hts (lw_V q505 q464 q465 q74 q466) rfl rfl rfl ⟨rfl, dd_J3_size⟩ ⟨Nat.le_of_ble_eq_true rfl, Nat.le_of_ble_eq_true rfl⟩) (z_preV hC hZ hM0 zc26) rfl rfl hl.1 rfl (lv_room (Nat.zero_le _)) dX0_count_123 ⟨hk, hn⟩) (fun r59 M H locs hw1 hZ => ?_) (fun q M H locs ci fs E T9 N9 hw hZ hc1 hM1 hb1 => False.elim hw)
    replace hw := hw1
    clear hw1
    refine W.cs (cells' := cells) (slots' := slots) rfl rfl ?_
    exact z_iret hG hZ hk hn hw dX0_count_126
  by_cases e67 : a0 = 4
  · replace hw := hw.2.2.2.2.1 e67
    refine lv_tableIn (tgt := 127) (off := 124) hx hb dX0_count_3 (by rw [e67]; decide) (by rw [e67]; decide) (by rw [e67]; decide) (by decide) ?_
    refine lv_aload_n hx hb dX0_count_127 rfl (lv_at hl 1 rfl) ?_
    obtain ⟨fs0, g62, hM0, hx0, hw⟩ := hw
    refine z_get hC hZ hM0 zc0 2 (by decide) q401 (fun _ h9 => h9) hx0 dX0_count_128 ?_
    exact z_iret hG hZ hk hn hw dX0_count_131
  by_cases e68 : a0 = 5
  · replace hw := hw.2.2.2.2.2.1 e68
    refine lv_tableIn (tgt := 132) (off := 129) hx hb dX0_count_3 (by rw [e68]; decide) (by rw [e68]; decide) (by rw [e68]; decide) (by decide) ?_
    refine lv_iconst (v := 0) hx hb dX0_count_132 (by decide) ?_
    refine lv_istore_n (i := 3) (lv' := [(3, .int (0 : Int32)), (2, .int (0 : Int32)), (0, .ref o), (1, .int a0)]) hx hb dX0_count_133 rfl hl (by decide) rfl (fun ls hl1 => ?_)
    replace hl := hl1
    clear hl1
    obtain ⟨f1, hw⟩ := hw
    exact wk_X0_count_L134 hG f1 _ _ _ hk hn hZ (lv_sub hl [2, 1, 0] rfl) hw
  replace hw := hw.2.2.2.2.2.2 ⟨e63, e64, e65, e66, e67, e68⟩
  refine z_tableK (tgt := 167) (S := [0, 1, 2, 3, 4, 5]) hx hb dX0_count_3 (by decide) (by decide) (by decide) (zal (lv_neT e63 (by decide)) (zal (lv_neT e64 (by decide)) (zal (lv_neT e65 (by decide)) (zal (lv_neT e66 (by decide)) (zal (lv_neT e67 (by decide)) (zal (lv_neT e68 (by decide)) (za0))))))) ?_
  refine lv_iconst (v := (-1)) hx hb dX0_count_167 (by decide) ?_
  exact z_iret hG hZ hk hn hw dX0_count_168
abbrev rm_X0_isRow : Room := { frames := 2, cells := 0, slots := 0, locals := 89 }
def wp_X0_isRow (D : zD) (post : Int32 → zM → Prop) (a0 : Int32) (M : zM) : Prop :=
    (wp_X0_in D (fun r1 M => (narrow .boolean (.int r1) = .int r1 ∧ post r1 M)) (a0.toInt64) (0 : Int64) (2 : Int64) M)
set_option maxHeartbeats 4000000 in
set_option maxRecDepth 100000 in
theorem w_X0_isRow {l : Launch} {D : zD} {post : Int32 → zM → Prop} (hlt : l.stackTraces = false) {a0 : Int32} {M : zM} (hw : wp_X0_isRow D post a0 M) : zMet l D yX0_isRow (ws_ yX0_isRow cX0_isRow 1 (some .boolean)) rm_X0_isRow 0 0 [.int a0] M zI post (fun _ _ => False) := by
  unfold wp_X0_isRow at hw
  have hlv : lv_args 0 [.int a0] = [(0, .int a0)] := (zargs1 rfl rfl)
  refine z_ofW hlt (by decide) (Nat.le_trans (zsl1 rfl (Nat.le_refl 0 : (lg_sl []).length ≤ 0)) (Nat.le_of_ble_eq_true rfl)) hlv ?_
  intro p e s m args below meth c ls hG hZ hl
  have hC := hG.1
  have hx := hC.x
  have hb := hC.b
  have hown := hC.o
  have hts := hC.ts
  have hlt := hG.2.2.2.2.2
  obtain ⟨cells, hce⟩ : ∃ z : Nat, z = 0 := ⟨0, rfl⟩
  obtain ⟨slots, hsl⟩ : ∃ z : Nat, z = 0 := ⟨0, rfl⟩
  refine W.cs (cells' := cells) (slots' := slots) hce.symm hsl.symm ?_
  have hk : cells ≤ 0 := Nat.le_of_eq hce
  have hn : slots ≤ 0 := Nat.le_of_eq hsl
  clear hce hsl
  refine lv_iload_n hx hb dX0_isRow_0 rfl (lv_at hl 0 rfl) ?_
  refine lv_i2l hx hb dX0_isRow_1 rfl ?_
  refine lv_lconst (v := 0) hx hb dX0_isRow_2 (by decide) ?_
  refine lv_ldc2 hx hb hown (hts _ q1188) dX0_isRow_3 ?_
  refine z_callI hZ (vx_runS (As := [.long (a0.toInt64), .long (0 : Int64), .long (2 : Int64)]) (rest := []) hC.fix (w_X0_in hlt hw) (va_cwS 3 hts (lw_S q434 q435 q67 q436) rfl rfl rfl dd_X0_in ⟨Nat.le_of_ble_eq_true rfl, Nat.le_of_ble_eq_true rfl⟩) (z_preS hC hZ) rfl rfl hl.1 rfl (lv_room (Nat.zero_le _)) dX0_isRow_6 ⟨hk, hn⟩) (fun r4 M H locs hw1 hZ => ?_) (fun q M H locs ci fs E T9 N9 hw hZ hc1 hM1 hb1 => False.elim hw)
  replace hw := hw1
  clear hw1
  refine W.cs (cells' := cells) (slots' := slots) rfl rfl ?_
  exact z_zret hG hZ hk hn hw.1 hw.2 dX0_isRow_9
abbrev rm_X8_size : Room := { frames := 1, cells := 0, slots := 0, locals := 64 }
def wp_X8_size_L52 (D : zD) (post : Int32 → zM → Prop) (o : Nat) (y0 : Int32) (M : zM) : Prop :=
    post y0 M
set_option maxHeartbeats 4000000 in
set_option maxRecDepth 100000 in
theorem wk_X8_size_L52 {p : Program} {l : Launch} {e : Env} {s : State} {m : MethodId} {args : Array Value} {below : List Frame} {meth : Method} {c : Code} {D : zD} {post : Int32 → zM → Prop} {o : Nat} (hG : zGx p l s m args meth c cX8_size 4 "PluralBranches$Row" D (some .int) "size" []) : ∀ {H : Heap} {locs : List Loc} {cells slots : Nat} {ls : Array Slot} (y0 : Int32) (M : zM), cells ≤ 0 → slots ≤ 0 → zS D M H locs → lv_has ls 4 [] → wp_X8_size_L52 D post o y0 M → W p l e rm_X8_size s m args below meth c H locs cells slots (vx_MQ below (zQ D zI post) (zX D (fun _ _ => False)) args s 0 0 (zA D)) (F0 m 52 ls [.int y0]) := by
  have hC := hG.1
  have hx := hC.x
  have hb := hC.b
  have hown := hC.o
  have hts := hC.ts
  have hlt := hG.2.2.2.2.2
  intro H locs cells slots ls y0 M hk hn hZ hl hw
  exact z_iret hG hZ hk hn hw dX8_size_52
def wp_X8_size (D : zD) (post : Int32 → zM → Prop) (o : Nat) (M : zM) : Prop :=
    (zgR M o 7 0 fun g1 => ((∃ w x, g1 = some w ∧ zB D ≤ w ∧ M w = some (.inl (3, x)) ∧ (((1 : Int32) = 0 → (zgR M o 7 0 fun g2 => ((∃ w x, g2 = some w ∧ zB D ≤ w ∧ M w = some (.inl (4, x)) ∧ (((1 : Int32) = 0 → (zgR M o 7 0 fun g3 => ((∀ w, g3 = some w → zB D ≤ w ∧ ∃ x : vp_A, M w = some (.inl (2, x))) ∧ ((zd g3 fun b4 => zlen M b4 fun n5 => wp_X8_size_L52 D post o n5 M))))) ∧ (¬ (1 : Int32) = 0 → ((∀ w, g2 = some w → zB D ≤ w ∧ ∃ x : vp_A, M w = some (.inl (4, x))) ∧ ((zd g2 fun b6 => zlen M b6 fun n7 => wp_X8_size_L52 D post o n7 M)))))) ∨ ((∀ w, g2 = some w → zB D ≤ w ∧ ∃ x : vp_A, M w = some (.inl (2, x)) ∨ M w = some (.inl (3, x))) ∧ (((0 : Int32) = 0 → (zgR M o 7 0 fun g9 => ((∀ w, g9 = some w → zB D ≤ w ∧ ∃ x : vp_A, M w = some (.inl (2, x))) ∧ ((zd g9 fun b10 => zlen M b10 fun n11 => wp_X8_size_L52 D post o n11 M))))) ∧ (¬ (0 : Int32) = 0 → ((∀ w, g2 = some w → zB D ≤ w ∧ ∃ x : vp_A, M w = some (.inl (4, x))) ∧ ((zd g2 fun b12 => zlen M b12 fun n13 => wp_X8_size_L52 D post o n13 M))))))))) ∧ (¬ (1 : Int32) = 0 → ((∀ w, g1 = some w → zB D ≤ w ∧ ∃ x : vp_A, M w = some (.inl (3, x))) ∧ ((zd g1 fun b15 => zlen M b15 fun n16 => wp_X8_size_L52 D post o n16 M)))))) ∨ ((∀ w, g1 = some w → zB D ≤ w ∧ ∃ x : vp_A, M w = some (.inl (2, x)) ∨ M w = some (.inl (4, x))) ∧ (((0 : Int32) = 0 → (zgR M o 7 0 fun g18 => ((∃ w x, g18 = some w ∧ zB D ≤ w ∧ M w = some (.inl (4, x)) ∧ (((1 : Int32) = 0 → (zgR M o 7 0 fun g19 => ((∀ w, g19 = some w → zB D ≤ w ∧ ∃ x : vp_A, M w = some (.inl (2, x))) ∧ ((zd g19 fun b20 => zlen M b20 fun n21 => wp_X8_size_L52 D post o n21 M))))) ∧ (¬ (1 : Int32) = 0 → ((∀ w, g18 = some w → zB D ≤ w ∧ ∃ x : vp_A, M w = some (.inl (4, x))) ∧ ((zd g18 fun b22 => zlen M b22 fun n23 => wp_X8_size_L52 D post o n23 M)))))) ∨ ((∀ w, g18 = some w → zB D ≤ w ∧ ∃ x : vp_A, M w = some (.inl (2, x)) ∨ M w = some (.inl (3, x))) ∧ (((0 : Int32) = 0 → (zgR M o 7 0 fun g25 => ((∀ w, g25 = some w → zB D ≤ w ∧ ∃ x : vp_A, M w = some (.inl (2, x))) ∧ ((zd g25 fun b26 => zlen M b26 fun n27 => wp_X8_size_L52 D post o n27 M))))) ∧ (¬ (0 : Int32) = 0 → ((∀ w, g18 = some w → zB D ≤ w ∧ ∃ x : vp_A, M w = some (.inl (4, x))) ∧ ((zd g18 fun b28 => zlen M b28 fun n29 => wp_X8_size_L52 D post o n29 M))))))))) ∧ (¬ (0 : Int32) = 0 → ((∀ w, g1 = some w → zB D ≤ w ∧ ∃ x : vp_A, M w = some (.inl (3, x))) ∧ ((zd g1 fun b31 => zlen M b31 fun n32 => wp_X8_size_L52 D post o n32 M))))))))
set_option maxHeartbeats 4000000 in
set_option maxRecDepth 100000 in
theorem w_X8_size {l : Launch} {D : zD} {post : Int32 → zM → Prop} (hlt : l.stackTraces = false) {o : Nat} {M : zM} (hw : wp_X8_size D post o M) : zMet l D yX8_size (ws_ yX8_size cX8_size 4 (some .int)) rm_X8_size 0 0 [.ref o] M zI post (fun _ _ => False) := by
  unfold wp_X8_size at hw
  have hlv : lv_args 0 [.ref o] = [(0, .ref o)] := (zargs1 rfl rfl)
  refine z_ofW hlt (by decide) (Nat.le_trans (zsl1 rfl (Nat.le_refl 0 : (lg_sl []).length ≤ 0)) (Nat.le_of_ble_eq_true rfl)) hlv ?_
  intro p e s m args below meth c ls hG hZ hl
  have hC := hG.1
  have hx := hC.x
  have hb := hC.b
  have hown := hC.o
  have hts := hC.ts
  have hlt := hG.2.2.2.2.2
  obtain ⟨cells, hce⟩ : ∃ z : Nat, z = 0 := ⟨0, rfl⟩
  obtain ⟨slots, hsl⟩ : ∃ z : Nat, z = 0 := ⟨0, rfl⟩
  refine W.cs (cells' := cells) (slots' := slots) hce.symm hsl.symm ?_
  have hk : cells ≤ 0 := Nat.le_of_eq hce
  have hn : slots ≤ 0 := Nat.le_of_eq hsl
  clear hce hsl
  refine lv_aload_n hx hb dX8_size_0 rfl (lv_at hl 0 rfl) ?_
  obtain ⟨fs0, g34, hM0, hx0, hw⟩ := hw
  refine z_get hC hZ hM0 zc7 0 (by decide) q394 (fun _ h9 => h9) hx0 dX8_size_1 ?_
  refine z_astore_n (i := 3) (lv' := [(3, va_rf g34), (0, .ref o)]) hC dX8_size_4 rfl hl (by decide) rfl (fun ls hl1 => ?_)
  replace hl := hl1
  clear hl1
  refine z_aload_n hC dX8_size_5 rfl (lv_at hl 0 rfl) ?_
  rcases hw with ⟨w0, x0, hr0, hb0, hM0, hw⟩ | ⟨hc0, hw⟩
  · refine z_instAYO (r := g34) (t := .float) hC hZ hr0 hM0 hb0 (Or.inr (Or.inl ⟨rfl, rfl⟩)) rfl q1653 dX8_size_6 ?_
    refine lv_if_eq (tgt := 22) hx hb dX8_size_9 (by decide) (fun c50 => ?_) (fun c50 => ?_)
    · replace hw := hw.1 c50
      refine lv_aload_n hx hb dX8_size_22 rfl (lv_at hl 1 rfl) ?_
      obtain ⟨fs0, g35, hM0, hx0, hw⟩ := hw
      refine z_get hC hZ hM0 zc7 0 (by decide) q394 (fun _ h9 => h9) hx0 dX8_size_23 ?_
      refine z_astore_n (i := 3) (lv' := [(3, va_rf g35), (0, .ref o)]) hC dX8_size_26 rfl hl (by decide) rfl (fun ls hl1 => ?_)
      replace hl := hl1
      clear hl1
      refine z_aload_n hC dX8_size_27 rfl (lv_at hl 0 rfl) ?_
      rcases hw with ⟨w0, x0, hr0, hb0, hM0, hw⟩ | ⟨hc0, hw⟩
      · refine z_instAYO (r := g35) (t := .double) hC hZ hr0 hM0 hb0 (Or.inr (Or.inr ⟨rfl, rfl⟩)) rfl q1654 dX8_size_28 ?_
        refine lv_if_eq (tgt := 44) hx hb dX8_size_31 (by decide) (fun c41 => ?_) (fun c41 => ?_)
        · replace hw := hw.1 c41
          refine lv_aload_n hx hb dX8_size_44 rfl (lv_at hl 1 rfl) ?_
          obtain ⟨fs0, g36, hM0, hx0, hw⟩ := hw
          refine z_get hC hZ hM0 zc7 0 (by decide) q394 (fun _ h9 => h9) hx0 dX8_size_45 ?_
          obtain ⟨hc0, hw⟩ := hw
          refine z_castAO (r := g36) (t := .long) hC hZ hc0 (Or.inl ⟨rfl, rfl⟩) rfl q1655 dX8_size_48 ?_
          obtain ⟨b37, hr0, hw⟩ := hw
          subst hr0
          obtain ⟨y0, hM0, hy0, hw⟩ := hw
          refine z_alen hC hZ hM0 hy0 dX8_size_51 ?_
          generalize Int32.ofNat y0.2.1 = n38 at hw ⊢
          exact wk_X8_size_L52 hG _ _ hk hn hZ (lv_sub hl [] rfl) hw
        · replace hw := hw.2 c41
          refine z_aload_n hC dX8_size_34 rfl (lv_at hl 0 rfl) ?_
          obtain ⟨hc0, hw⟩ := hw
          refine z_castAO (r := g35) (t := .double) hC hZ hc0 (Or.inr (Or.inr ⟨rfl, rfl⟩)) rfl q1654 dX8_size_35 ?_
          refine z_astore_n (i := 1) (lv' := [(1, va_rf g35), (3, va_rf g35), (0, .ref o)]) hC dX8_size_38 rfl hl (by decide) rfl (fun ls hl1 => ?_)
          replace hl := hl1
          clear hl1
          refine z_aload_n hC dX8_size_39 rfl (lv_at hl 0 rfl) ?_
          obtain ⟨b39, hr0, hw⟩ := hw
          subst hr0
          obtain ⟨y0, hM0, hy0, hw⟩ := hw
          refine z_alen hC hZ hM0 hy0 dX8_size_40 ?_
          generalize Int32.ofNat y0.2.1 = n40 at hw ⊢
          refine lv_goto (tgt := 52) hx hb dX8_size_41 (by decide) ?_
          exact wk_X8_size_L52 hG _ _ hk hn hZ (lv_sub hl [] rfl) hw
      · refine z_instANO (r := g35) (t1 := .long) (t2 := .float) hC hZ hc0 (Or.inl ⟨rfl, rfl⟩) (Or.inr (Or.inl ⟨rfl, rfl⟩)) (by decide) (by decide) q1654 dX8_size_28 ?_
        refine lv_if_eq (tgt := 44) hx hb dX8_size_31 (by decide) (fun c47 => ?_) (fun c47 => ?_)
        · replace hw := hw.1 c47
          refine lv_aload_n hx hb dX8_size_44 rfl (lv_at hl 1 rfl) ?_
          obtain ⟨fs0, g42, hM0, hx0, hw⟩ := hw
          refine z_get hC hZ hM0 zc7 0 (by decide) q394 (fun _ h9 => h9) hx0 dX8_size_45 ?_
          obtain ⟨hc0, hw⟩ := hw
          refine z_castAO (r := g42) (t := .long) hC hZ hc0 (Or.inl ⟨rfl, rfl⟩) rfl q1655 dX8_size_48 ?_
          obtain ⟨b43, hr0, hw⟩ := hw
          subst hr0
          obtain ⟨y0, hM0, hy0, hw⟩ := hw
          refine z_alen hC hZ hM0 hy0 dX8_size_51 ?_
          generalize Int32.ofNat y0.2.1 = n44 at hw ⊢
          exact wk_X8_size_L52 hG _ _ hk hn hZ (lv_sub hl [] rfl) hw
        · replace hw := hw.2 c47
          refine z_aload_n hC dX8_size_34 rfl (lv_at hl 0 rfl) ?_
          obtain ⟨hc0, hw⟩ := hw
          refine z_castAO (r := g35) (t := .double) hC hZ hc0 (Or.inr (Or.inr ⟨rfl, rfl⟩)) rfl q1654 dX8_size_35 ?_
          refine z_astore_n (i := 1) (lv' := [(1, va_rf g35), (3, va_rf g35), (0, .ref o)]) hC dX8_size_38 rfl hl (by decide) rfl (fun ls hl1 => ?_)
          replace hl := hl1
          clear hl1
          refine z_aload_n hC dX8_size_39 rfl (lv_at hl 0 rfl) ?_
          obtain ⟨b45, hr0, hw⟩ := hw
          subst hr0
          obtain ⟨y0, hM0, hy0, hw⟩ := hw
          refine z_alen hC hZ hM0 hy0 dX8_size_40 ?_
          generalize Int32.ofNat y0.2.1 = n46 at hw ⊢
          refine lv_goto (tgt := 52) hx hb dX8_size_41 (by decide) ?_
          exact wk_X8_size_L52 hG _ _ hk hn hZ (lv_sub hl [] rfl) hw
    · replace hw := hw.2 c50
      refine z_aload_n hC dX8_size_12 rfl (lv_at hl 0 rfl) ?_
      obtain ⟨hc0, hw⟩ := hw
      refine z_castAO (r := g34) (t := .float) hC hZ hc0 (Or.inr (Or.inl ⟨rfl, rfl⟩)) rfl q1653 dX8_size_13 ?_
      refine z_astore_n (i := 2) (lv' := [(2, va_rf g34), (3, va_rf g34), (0, .ref o)]) hC dX8_size_16 rfl hl (by decide) rfl (fun ls hl1 => ?_)
      replace hl := hl1
      clear hl1
      refine z_aload_n hC dX8_size_17 rfl (lv_at hl 0 rfl) ?_
      obtain ⟨b48, hr0, hw⟩ := hw
      subst hr0
      obtain ⟨y0, hM0, hy0, hw⟩ := hw
      refine z_alen hC hZ hM0 hy0 dX8_size_18 ?_
      generalize Int32.ofNat y0.2.1 = n49 at hw ⊢
      refine lv_goto (tgt := 52) hx hb dX8_size_19 (by decide) ?_
      exact wk_X8_size_L52 hG _ _ hk hn hZ (lv_sub hl [] rfl) hw
  · refine z_instANO (r := g34) (t1 := .long) (t2 := .double) hC hZ hc0 (Or.inl ⟨rfl, rfl⟩) (Or.inr (Or.inr ⟨rfl, rfl⟩)) (by decide) (by decide) q1653 dX8_size_6 ?_
    refine lv_if_eq (tgt := 22) hx hb dX8_size_9 (by decide) (fun c66 => ?_) (fun c66 => ?_)
    · replace hw := hw.1 c66
      refine lv_aload_n hx hb dX8_size_22 rfl (lv_at hl 1 rfl) ?_
      obtain ⟨fs0, g51, hM0, hx0, hw⟩ := hw
      refine z_get hC hZ hM0 zc7 0 (by decide) q394 (fun _ h9 => h9) hx0 dX8_size_23 ?_
      refine z_astore_n (i := 3) (lv' := [(3, va_rf g51), (0, .ref o)]) hC dX8_size_26 rfl hl (by decide) rfl (fun ls hl1 => ?_)
      replace hl := hl1
      clear hl1
      refine z_aload_n hC dX8_size_27 rfl (lv_at hl 0 rfl) ?_
      rcases hw with ⟨w0, x0, hr0, hb0, hM0, hw⟩ | ⟨hc0, hw⟩
      · refine z_instAYO (r := g51) (t := .double) hC hZ hr0 hM0 hb0 (Or.inr (Or.inr ⟨rfl, rfl⟩)) rfl q1654 dX8_size_28 ?_
        refine lv_if_eq (tgt := 44) hx hb dX8_size_31 (by decide) (fun c57 => ?_) (fun c57 => ?_)
        · replace hw := hw.1 c57
          refine lv_aload_n hx hb dX8_size_44 rfl (lv_at hl 1 rfl) ?_
          obtain ⟨fs0, g52, hM0, hx0, hw⟩ := hw
          refine z_get hC hZ hM0 zc7 0 (by decide) q394 (fun _ h9 => h9) hx0 dX8_size_45 ?_
          obtain ⟨hc0, hw⟩ := hw
          refine z_castAO (r := g52) (t := .long) hC hZ hc0 (Or.inl ⟨rfl, rfl⟩) rfl q1655 dX8_size_48 ?_
          obtain ⟨b53, hr0, hw⟩ := hw
          subst hr0
          obtain ⟨y0, hM0, hy0, hw⟩ := hw
          refine z_alen hC hZ hM0 hy0 dX8_size_51 ?_
          generalize Int32.ofNat y0.2.1 = n54 at hw ⊢
          exact wk_X8_size_L52 hG _ _ hk hn hZ (lv_sub hl [] rfl) hw
        · replace hw := hw.2 c57
          refine z_aload_n hC dX8_size_34 rfl (lv_at hl 0 rfl) ?_
          obtain ⟨hc0, hw⟩ := hw
          refine z_castAO (r := g51) (t := .double) hC hZ hc0 (Or.inr (Or.inr ⟨rfl, rfl⟩)) rfl q1654 dX8_size_35 ?_
          refine z_astore_n (i := 1) (lv' := [(1, va_rf g51), (3, va_rf g51), (0, .ref o)]) hC dX8_size_38 rfl hl (by decide) rfl (fun ls hl1 => ?_)
          replace hl := hl1
          clear hl1
          refine z_aload_n hC dX8_size_39 rfl (lv_at hl 0 rfl) ?_
          obtain ⟨b55, hr0, hw⟩ := hw
          subst hr0
          obtain ⟨y0, hM0, hy0, hw⟩ := hw
          refine z_alen hC hZ hM0 hy0 dX8_size_40 ?_
          generalize Int32.ofNat y0.2.1 = n56 at hw ⊢
          refine lv_goto (tgt := 52) hx hb dX8_size_41 (by decide) ?_
          exact wk_X8_size_L52 hG _ _ hk hn hZ (lv_sub hl [] rfl) hw
      · refine z_instANO (r := g51) (t1 := .long) (t2 := .float) hC hZ hc0 (Or.inl ⟨rfl, rfl⟩) (Or.inr (Or.inl ⟨rfl, rfl⟩)) (by decide) (by decide) q1654 dX8_size_28 ?_
        refine lv_if_eq (tgt := 44) hx hb dX8_size_31 (by decide) (fun c63 => ?_) (fun c63 => ?_)
        · replace hw := hw.1 c63
          refine lv_aload_n hx hb dX8_size_44 rfl (lv_at hl 1 rfl) ?_
          obtain ⟨fs0, g58, hM0, hx0, hw⟩ := hw
          refine z_get hC hZ hM0 zc7 0 (by decide) q394 (fun _ h9 => h9) hx0 dX8_size_45 ?_
          obtain ⟨hc0, hw⟩ := hw
          refine z_castAO (r := g58) (t := .long) hC hZ hc0 (Or.inl ⟨rfl, rfl⟩) rfl q1655 dX8_size_48 ?_
          obtain ⟨b59, hr0, hw⟩ := hw
          subst hr0
          obtain ⟨y0, hM0, hy0, hw⟩ := hw
          refine z_alen hC hZ hM0 hy0 dX8_size_51 ?_
          generalize Int32.ofNat y0.2.1 = n60 at hw ⊢
          exact wk_X8_size_L52 hG _ _ hk hn hZ (lv_sub hl [] rfl) hw
        · replace hw := hw.2 c63
          refine z_aload_n hC dX8_size_34 rfl (lv_at hl 0 rfl) ?_
          obtain ⟨hc0, hw⟩ := hw
          refine z_castAO (r := g51) (t := .double) hC hZ hc0 (Or.inr (Or.inr ⟨rfl, rfl⟩)) rfl q1654 dX8_size_35 ?_
          refine z_astore_n (i := 1) (lv' := [(1, va_rf g51), (3, va_rf g51), (0, .ref o)]) hC dX8_size_38 rfl hl (by decide) rfl (fun ls hl1 => ?_)
          replace hl := hl1
          clear hl1
          refine z_aload_n hC dX8_size_39 rfl (lv_at hl 0 rfl) ?_
          obtain ⟨b61, hr0, hw⟩ := hw
          subst hr0
          obtain ⟨y0, hM0, hy0, hw⟩ := hw
          refine z_alen hC hZ hM0 hy0 dX8_size_40 ?_
          generalize Int32.ofNat y0.2.1 = n62 at hw ⊢
          refine lv_goto (tgt := 52) hx hb dX8_size_41 (by decide) ?_
          exact wk_X8_size_L52 hG _ _ hk hn hZ (lv_sub hl [] rfl) hw
    · replace hw := hw.2 c66
      refine z_aload_n hC dX8_size_12 rfl (lv_at hl 0 rfl) ?_
      obtain ⟨hc0, hw⟩ := hw
      refine z_castAO (r := g34) (t := .float) hC hZ hc0 (Or.inr (Or.inl ⟨rfl, rfl⟩)) rfl q1653 dX8_size_13 ?_
      refine z_astore_n (i := 2) (lv' := [(2, va_rf g34), (3, va_rf g34), (0, .ref o)]) hC dX8_size_16 rfl hl (by decide) rfl (fun ls hl1 => ?_)
      replace hl := hl1
      clear hl1
      refine z_aload_n hC dX8_size_17 rfl (lv_at hl 0 rfl) ?_
      obtain ⟨b64, hr0, hw⟩ := hw
      subst hr0
      obtain ⟨y0, hM0, hy0, hw⟩ := hw
      refine z_alen hC hZ hM0 hy0 dX8_size_18 ?_
      generalize Int32.ofNat y0.2.1 = n65 at hw ⊢
      refine lv_goto (tgt := 52) hx hb dX8_size_19 (by decide) ?_
      exact wk_X8_size_L52 hG _ _ hk hn hZ (lv_sub hl [] rfl) hw
abbrev rm_X0_unlike : Room := { frames := 3, cells := 0, slots := 0, locals := 109 }
def wp_X0_unlike_L53 (D : zD) (post : Int32 → zM → Prop) (o : Nat) (y0 : Int32) (M : zM) : Prop :=
    post y0 M
set_option maxHeartbeats 4000000 in
set_option maxRecDepth 100000 in
theorem wk_X0_unlike_L53 {p : Program} {l : Launch} {e : Env} {s : State} {m : MethodId} {args : Array Value} {below : List Frame} {meth : Method} {c : Code} {D : zD} {post : Int32 → zM → Prop} {o : Nat} (hG : zGx p l s m args meth c cX0_unlike 3 "PluralBranches" D (some .int) "unlike" []) : ∀ {H : Heap} {locs : List Loc} {cells slots : Nat} {ls : Array Slot} (y0 : Int32) (M : zM), cells ≤ 0 → slots ≤ 0 → zS D M H locs → lv_has ls 3 [] → wp_X0_unlike_L53 D post o y0 M → W p l e rm_X0_unlike s m args below meth c H locs cells slots (vx_MQ below (zQ D zI post) (zX D (fun _ _ => False)) args s 0 0 (zA D)) (F0 m 53 ls [.int y0]) := by
  have hC := hG.1
  have hx := hC.x
  have hb := hC.b
  have hown := hC.o
  have hts := hC.ts
  have hlt := hG.2.2.2.2.2
  intro H locs cells slots ls y0 M hk hn hZ hl hw
  exact z_iret hG hZ hk hn hw dX0_unlike_53
def wp_X0_unlike (D : zD) (post : Int32 → zM → Prop) (o : Nat) (a0 : Int32) (a1 : Int32) (M : zM) : Prop :=
    (wp_X0_isRow D (fun r1 M => ((¬ r1 = 0 → (zgR M o 0 7 fun g4 => ((zd g4 fun b5 => zaR M b5 10 a0 fun v6 => ((zd v6 fun b7 => zgR M b7 7 0 fun g8 => ((∀ b9 : Nat, g8 = some b9 → (zgR M o 0 7 fun g10 => ((zd g10 fun b11 => zaR M b11 10 a0 fun v12 => ((zd v12 fun b13 => (zis M b13 [7] ∧ wp_X8_size D (fun r14 M => (wp_X0_in D (fun r17 M => ((r17 = 0 → wp_X0_unlike_L53 D post o (-12 : Int32) M) ∧ (¬ r17 = 0 → wp_X0_unlike_L53 D post o (0 : Int32) M))) (a1.toInt64) (0 : Int64) ((r14 - (1 : Int32)).toInt64) M)) b13 M))))))) ∧ (g8 = none → wp_X0_unlike_L53 D post o (-11 : Int32) M)))))))) ∧ (r1 = 0 → post (-1 : Int32) M))) a0 M)
set_option maxHeartbeats 4000000 in
set_option maxRecDepth 100000 in
theorem w_X0_unlike {l : Launch} {D : zD} {post : Int32 → zM → Prop} (hlt : l.stackTraces = false) {o : Nat} {a0 : Int32} {a1 : Int32} {M : zM} (hw : wp_X0_unlike D post o a0 a1 M) : zMet l D yX0_unlike (ws_ yX0_unlike cX0_unlike 3 (some .int)) rm_X0_unlike 0 0 [.ref o, .int a0, .int a1] M zI post (fun _ _ => False) := by
  unfold wp_X0_unlike at hw
  have hlv : lv_args 0 [.ref o, .int a0, .int a1] = [(0, .ref o), (1, .int a0), (2, .int a1)] := (zargs1 rfl (zargs1 rfl (zargs1 rfl rfl)))
  refine z_ofW hlt (by decide) (Nat.le_trans (zsl1 rfl (zsl1 rfl (zsl1 rfl (Nat.le_refl 0 : (lg_sl []).length ≤ 0)))) (Nat.le_of_ble_eq_true rfl)) hlv ?_
  intro p e s m args below meth c ls hG hZ hl
  have hC := hG.1
  have hx := hC.x
  have hb := hC.b
  have hown := hC.o
  have hts := hC.ts
  have hlt := hG.2.2.2.2.2
  obtain ⟨cells, hce⟩ : ∃ z : Nat, z = 0 := ⟨0, rfl⟩
  obtain ⟨slots, hsl⟩ : ∃ z : Nat, z = 0 := ⟨0, rfl⟩
  refine W.cs (cells' := cells) (slots' := slots) hce.symm hsl.symm ?_
  have hk : cells ≤ 0 := Nat.le_of_eq hce
  have hn : slots ≤ 0 := Nat.le_of_eq hsl
  clear hce hsl
  refine lv_iload_n hx hb dX0_unlike_0 rfl (lv_at hl 1 rfl) ?_
  refine z_callI hZ (vx_runS (As := [.int a0]) (rest := []) hC.fix (w_X0_isRow hlt hw) (va_cwS 1 hts (lw_S q1631 q1632 q67 q1633) rfl rfl rfl dd_X0_isRow ⟨Nat.le_of_ble_eq_true rfl, Nat.le_of_ble_eq_true rfl⟩) (z_preS hC hZ) rfl rfl hl.1 rfl (lv_room (Nat.zero_le _)) dX0_unlike_1 ⟨hk, hn⟩) (fun r22 M H locs hw1 hZ => ?_) (fun q M H locs ci fs E T9 N9 hw hZ hc1 hM1 hb1 => False.elim hw)
  replace hw := hw1
  clear hw1
  refine W.cs (cells' := cells) (slots' := slots) rfl rfl ?_
  refine lv_if_ne (tgt := 9) hx hb dX0_unlike_4 (by decide) (fun c42 => ?_) (fun c42 => ?_)
  · replace hw := hw.1 c42
    refine lv_aload_n hx hb dX0_unlike_9 rfl (lv_at hl 0 rfl) ?_
    obtain ⟨fs0, g25, hM0, hx0, hw⟩ := hw
    refine z_get hC hZ hM0 zc0 7 (by decide) q408 (fun _ h9 => h9) hx0 dX0_unlike_10 ?_
    refine lv_iload_n hx hb dX0_unlike_13 rfl (lv_at hl 1 rfl) ?_
    obtain ⟨b26, hr0, hw⟩ := hw
    subst hr0
    obtain ⟨n0, f0, v27, hM0, hi0, hr0, hw⟩ := hw
    refine z_aald hC hZ hM0 (by decide) rfl hi0 hr0 dX0_unlike_14 ?_
    obtain ⟨b28, hr0, hw⟩ := hw
    subst hr0
    obtain ⟨fs0, g29, hM0, hx0, hw⟩ := hw
    refine z_getN hC hZ hM0 zc7 0 (by decide) q395 (fun _ h9 => h9) hx0 dX0_unlike_15 ?_
    refine z_ifnonnull (tgt := 26) hC dX0_unlike_18 (by decide) (fun b30 hr0 => ?_) (fun hr0 => ?_)
    · replace hw := hw.1 b30 hr0
      subst hr0
      refine lv_iload_n hx hb dX0_unlike_26 rfl (lv_at hl 2 rfl) ?_
      refine lv_i2l hx hb dX0_unlike_27 rfl ?_
      refine lv_lconst (v := 0) hx hb dX0_unlike_28 (by decide) ?_
      refine lv_aload_n hx hb dX0_unlike_29 rfl (lv_at hl 0 rfl) ?_
      obtain ⟨fs0, g31, hM0, hx0, hw⟩ := hw
      refine z_get hC hZ hM0 zc0 7 (by decide) q408 (fun _ h9 => h9) hx0 dX0_unlike_30 ?_
      refine lv_iload_n hx hb dX0_unlike_33 rfl (lv_at hl 1 rfl) ?_
      obtain ⟨b32, hr0, hw⟩ := hw
      subst hr0
      obtain ⟨n0, f0, v33, hM0, hi0, hr0, hw⟩ := hw
      refine z_aald hC hZ hM0 (by decide) rfl hi0 hr0 dX0_unlike_34 ?_
      obtain ⟨b34, hr0, hw⟩ := hw
      subst hr0
      obtain ⟨⟨ci0, fs0, hci0, hM0⟩, hw⟩ := hw
      obtain rfl : ci0 = 7 := List.mem_singleton.mp hci0
      refine z_callI hZ (vx_runV (As := []) (rest := [.long (0 : Int64), .long (a1.toInt64)]) hC.fix (w_X8_size hlt hw) (cwV 0 hts (lw_V q1649 q1650 q1651 q82 q1652) rfl rfl rfl ⟨rfl, dd_X8_size⟩ ⟨Nat.le_of_ble_eq_true rfl, Nat.le_of_ble_eq_true rfl⟩) (z_preV hC hZ hM0 zc7) rfl rfl hl.1 rfl (lv_room (Nat.le_trans (zrm2 rfl (zrm2 rfl zrm0)) (Nat.le_of_ble_eq_true rfl))) dX0_unlike_35 ⟨hk, hn⟩) (fun r35 M H locs hw1 hZ => ?_) (fun q M H locs ci fs E T9 N9 hw hZ hc1 hM1 hb1 => False.elim hw)
      replace hw := hw1
      clear hw1
      refine W.cs (cells' := cells) (slots' := slots) rfl rfl ?_
      refine lv_iconst (v := 1) hx hb dX0_unlike_38 (by decide) ?_
      refine lv_isub hx hb dX0_unlike_39 ?_
      refine lv_i2l hx hb dX0_unlike_40 rfl ?_
      refine z_callI hZ (vx_runS (As := [.long (a1.toInt64), .long (0 : Int64), .long ((r35 - (1 : Int32)).toInt64)]) (rest := []) hC.fix (w_X0_in hlt hw) (va_cwS 3 hts (lw_S q434 q435 q67 q436) rfl rfl rfl dd_X0_in ⟨Nat.le_of_ble_eq_true rfl, Nat.le_of_ble_eq_true rfl⟩) (z_preS hC hZ) rfl rfl hl.1 rfl (lv_room (Nat.zero_le _)) dX0_unlike_41 ⟨hk, hn⟩) (fun r38 M H locs hw1 hZ => ?_) (fun q M H locs ci fs E T9 N9 hw hZ hc1 hM1 hb1 => False.elim hw)
      replace hw := hw1
      clear hw1
      refine W.cs (cells' := cells) (slots' := slots) rfl rfl ?_
      refine lv_if_eq (tgt := 51) hx hb dX0_unlike_44 (by decide) (fun c41 => ?_) (fun c41 => ?_)
      · replace hw := hw.1 c41
        refine lv_bipush (v := (-12)) hx hb dX0_unlike_51 (by decide) ?_
        exact wk_X0_unlike_L53 hG _ _ hk hn hZ (lv_sub hl [] rfl) hw
      · replace hw := hw.2 c41
        refine lv_iconst (v := 0) hx hb dX0_unlike_47 (by decide) ?_
        refine lv_goto (tgt := 53) hx hb dX0_unlike_48 (by decide) ?_
        exact wk_X0_unlike_L53 hG _ _ hk hn hZ (lv_sub hl [] rfl) hw
    · replace hw := hw.2 hr0
      refine lv_bipush (v := (-11)) hx hb dX0_unlike_21 (by decide) ?_
      refine lv_goto (tgt := 53) hx hb dX0_unlike_23 (by decide) ?_
      exact wk_X0_unlike_L53 hG _ _ hk hn hZ (lv_sub hl [] rfl) hw
  · replace hw := hw.2 c42
    refine lv_iconst (v := (-1)) hx hb dX0_unlike_7 (by decide) ?_
    exact z_iret hG hZ hk hn hw dX0_unlike_8
abbrev rm_X0_cut : Room := { frames := 4, cells := 0, slots := 0, locals := 131 }
def wp_X0_cut_L19 (D : zD) (post : Int64 → zM → Prop) (o : Nat) (M : zM) : Prop :=
    post (-9223372036854775808 : Int64) M
set_option maxHeartbeats 4000000 in
set_option maxRecDepth 100000 in
theorem wk_X0_cut_L19 {p : Program} {l : Launch} {e : Env} {s : State} {m : MethodId} {args : Array Value} {below : List Frame} {meth : Method} {c : Code} {D : zD} {post : Int64 → zM → Prop} {o : Nat} (hG : zGx p l s m args meth c cX0_cut 7 "PluralBranches" D (some .long) "cut" []) : ∀ {H : Heap} {locs : List Loc} {cells slots : Nat} {ls : Array Slot} (M : zM), cells ≤ 0 → slots ≤ 0 → zS D M H locs → lv_has ls 7 [] → wp_X0_cut_L19 D post o M → W p l e rm_X0_cut s m args below meth c H locs cells slots (vx_MQ below (zQ D zL post) (zX D (fun _ _ => False)) args s 0 0 (zA D)) (F0 m 19 ls []) := by
  have hC := hG.1
  have hx := hC.x
  have hb := hC.b
  have hown := hC.o
  have hts := hC.ts
  have hlt := hG.2.2.2.2.2
  intro H locs cells slots ls M hk hn hZ hl hw
  refine lv_ldc2 hx hb hown (hts _ q442) dX0_cut_19 ?_
  exact z_lret hG hZ hk hn hw dX0_cut_22
def wp_X0_cut_L124 (D : zD) (post : Int64 → zM → Prop) (o : Nat) (y0 : Int64) (M : zM) : Prop :=
    post y0 M
set_option maxHeartbeats 4000000 in
set_option maxRecDepth 100000 in
theorem wk_X0_cut_L124 {p : Program} {l : Launch} {e : Env} {s : State} {m : MethodId} {args : Array Value} {below : List Frame} {meth : Method} {c : Code} {D : zD} {post : Int64 → zM → Prop} {o : Nat} (hG : zGx p l s m args meth c cX0_cut 7 "PluralBranches" D (some .long) "cut" []) : ∀ {H : Heap} {locs : List Loc} {cells slots : Nat} {ls : Array Slot} (y0 : Int64) (M : zM), cells ≤ 0 → slots ≤ 0 → zS D M H locs → lv_has ls 7 [] → wp_X0_cut_L124 D post o y0 M → W p l e rm_X0_cut s m args below meth c H locs cells slots (vx_MQ below (zQ D zL post) (zX D (fun _ _ => False)) args s 0 0 (zA D)) (F0 m 124 ls [.long y0]) := by
  have hC := hG.1
  have hx := hC.x
  have hb := hC.b
  have hown := hC.o
  have hts := hC.ts
  have hlt := hG.2.2.2.2.2
  intro H locs cells slots ls y0 M hk hn hZ hl hw
  exact z_lret hG hZ hk hn hw dX0_cut_124
def wp_X0_cut_L100 (D : zD) (post : Int64 → zM → Prop) (o : Nat) (y0 : Int64) (M : zM) : Prop :=
    post y0 M
set_option maxHeartbeats 4000000 in
set_option maxRecDepth 100000 in
theorem wk_X0_cut_L100 {p : Program} {l : Launch} {e : Env} {s : State} {m : MethodId} {args : Array Value} {below : List Frame} {meth : Method} {c : Code} {D : zD} {post : Int64 → zM → Prop} {o : Nat} (hG : zGx p l s m args meth c cX0_cut 7 "PluralBranches" D (some .long) "cut" []) : ∀ {H : Heap} {locs : List Loc} {cells slots : Nat} {ls : Array Slot} (y0 : Int64) (M : zM), cells ≤ 0 → slots ≤ 0 → zS D M H locs → lv_has ls 7 [] → wp_X0_cut_L100 D post o y0 M → W p l e rm_X0_cut s m args below meth c H locs cells slots (vx_MQ below (zQ D zL post) (zX D (fun _ _ => False)) args s 0 0 (zA D)) (F0 m 100 ls [.long y0]) := by
  have hC := hG.1
  have hx := hC.x
  have hb := hC.b
  have hown := hC.o
  have hts := hC.ts
  have hlt := hG.2.2.2.2.2
  intro H locs cells slots ls y0 M hk hn hZ hl hw
  exact z_lret hG hZ hk hn hw dX0_cut_100
def wp_X0_cut_L66 (D : zD) (post : Int64 → zM → Prop) (o : Nat) (y0 : Int64) (M : zM) : Prop :=
    post y0 M
set_option maxHeartbeats 4000000 in
set_option maxRecDepth 100000 in
theorem wk_X0_cut_L66 {p : Program} {l : Launch} {e : Env} {s : State} {m : MethodId} {args : Array Value} {below : List Frame} {meth : Method} {c : Code} {D : zD} {post : Int64 → zM → Prop} {o : Nat} (hG : zGx p l s m args meth c cX0_cut 7 "PluralBranches" D (some .long) "cut" []) : ∀ {H : Heap} {locs : List Loc} {cells slots : Nat} {ls : Array Slot} (y0 : Int64) (M : zM), cells ≤ 0 → slots ≤ 0 → zS D M H locs → lv_has ls 7 [] → wp_X0_cut_L66 D post o y0 M → W p l e rm_X0_cut s m args below meth c H locs cells slots (vx_MQ below (zQ D zL post) (zX D (fun _ _ => False)) args s 0 0 (zA D)) (F0 m 66 ls [.long y0]) := by
  have hC := hG.1
  have hx := hC.x
  have hb := hC.b
  have hown := hC.o
  have hts := hC.ts
  have hlt := hG.2.2.2.2.2
  intro H locs cells slots ls y0 M hk hn hZ hl hw
  exact z_lret hG hZ hk hn hw dX0_cut_66
def wp_X0_cut (D : zD) (post : Int64 → zM → Prop) (o : Nat) (a0 : Int32) (a1 : Int32) (a2 : Int32) (M : zM) : Prop :=
    ((zis M o [0] ∧ wp_X0_unlike D (fun r1 M => ((¬ r1 = 0 → wp_X0_cut_L19 D post o M) ∧ (r1 = 0 → (wp_X0_in D (fun r4 M => ((¬ r4 = 0 → (zgR M o 0 7 fun g7 => ((zd g7 fun b8 => zaR M b8 10 a0 fun v9 => ((zd v9 fun b10 => zgR M b10 7 0 fun g11 => ((∃ w x, g11 = some w ∧ zB D ≤ w ∧ M w = some (.inl (2, x)) ∧ (((1 : Int32) = 0 → ((∃ w x, g11 = some w ∧ zB D ≤ w ∧ M w = some (.inl (3, x)) ∧ (((1 : Int32) = 0 → ((∀ w, g11 = some w → zB D ≤ w ∧ ∃ x : vp_A, M w = some (.inl (4, x))) ∧ ((zd g11 fun b12 => zaD M b12 a1 fun v13 => ((¬ a2 = 0 → wp_X0_cut_L124 D post o (FP.d2l v13) M) ∧ (a2 = 0 → wp_X0_cut_L124 D post o ((FP.d2i v13).toInt64) M)))))) ∧ (¬ (1 : Int32) = 0 → ((∀ w, g11 = some w → zB D ≤ w ∧ ∃ x : vp_A, M w = some (.inl (3, x))) ∧ ((¬ a2 = 0 → ((zd g11 fun b15 => zaF M b15 a1 fun v16 => wp_X0_cut_L100 D post o (FP.f2l v16) M))) ∧ (a2 = 0 → ((zd g11 fun b17 => zaF M b17 a1 fun v18 => wp_X0_cut_L100 D post o ((FP.f2i v18).toInt64) M)))))))) ∨ ((∀ w, g11 = some w → zB D ≤ w ∧ ∃ x : vp_A, M w = some (.inl (2, x)) ∨ M w = some (.inl (4, x))) ∧ (((0 : Int32) = 0 → ((∀ w, g11 = some w → zB D ≤ w ∧ ∃ x : vp_A, M w = some (.inl (4, x))) ∧ ((zd g11 fun b21 => zaD M b21 a1 fun v22 => ((¬ a2 = 0 → wp_X0_cut_L124 D post o (FP.d2l v22) M) ∧ (a2 = 0 → wp_X0_cut_L124 D post o ((FP.d2i v22).toInt64) M)))))) ∧ (¬ (0 : Int32) = 0 → ((∀ w, g11 = some w → zB D ≤ w ∧ ∃ x : vp_A, M w = some (.inl (3, x))) ∧ ((¬ a2 = 0 → ((zd g11 fun b24 => zaF M b24 a1 fun v25 => wp_X0_cut_L100 D post o (FP.f2l v25) M))) ∧ (a2 = 0 → ((zd g11 fun b26 => zaF M b26 a1 fun v27 => wp_X0_cut_L100 D post o ((FP.f2i v27).toInt64) M)))))))))) ∧ (¬ (1 : Int32) = 0 → ((∀ w, g11 = some w → zB D ≤ w ∧ ∃ x : vp_A, M w = some (.inl (2, x))) ∧ ((¬ a2 = 0 → ((zd g11 fun b30 => zaL M b30 a1 fun v31 => wp_X0_cut_L66 D post o v31 M))) ∧ (a2 = 0 → ((zd g11 fun b32 => zaL M b32 a1 fun v33 => wp_X0_cut_L66 D post o ((v33.toInt32).toInt64) M)))))))) ∨ ((∀ w, g11 = some w → zB D ≤ w ∧ ∃ x : vp_A, M w = some (.inl (3, x)) ∨ M w = some (.inl (4, x))) ∧ (((0 : Int32) = 0 → ((∃ w x, g11 = some w ∧ zB D ≤ w ∧ M w = some (.inl (3, x)) ∧ (((1 : Int32) = 0 → ((∀ w, g11 = some w → zB D ≤ w ∧ ∃ x : vp_A, M w = some (.inl (4, x))) ∧ ((zd g11 fun b36 => zaD M b36 a1 fun v37 => ((¬ a2 = 0 → wp_X0_cut_L124 D post o (FP.d2l v37) M) ∧ (a2 = 0 → wp_X0_cut_L124 D post o ((FP.d2i v37).toInt64) M)))))) ∧ (¬ (1 : Int32) = 0 → ((∀ w, g11 = some w → zB D ≤ w ∧ ∃ x : vp_A, M w = some (.inl (3, x))) ∧ ((¬ a2 = 0 → ((zd g11 fun b39 => zaF M b39 a1 fun v40 => wp_X0_cut_L100 D post o (FP.f2l v40) M))) ∧ (a2 = 0 → ((zd g11 fun b41 => zaF M b41 a1 fun v42 => wp_X0_cut_L100 D post o ((FP.f2i v42).toInt64) M)))))))) ∨ ((∀ w, g11 = some w → zB D ≤ w ∧ ∃ x : vp_A, M w = some (.inl (2, x)) ∨ M w = some (.inl (4, x))) ∧ (((0 : Int32) = 0 → ((∀ w, g11 = some w → zB D ≤ w ∧ ∃ x : vp_A, M w = some (.inl (4, x))) ∧ ((zd g11 fun b45 => zaD M b45 a1 fun v46 => ((¬ a2 = 0 → wp_X0_cut_L124 D post o (FP.d2l v46) M) ∧ (a2 = 0 → wp_X0_cut_L124 D post o ((FP.d2i v46).toInt64) M)))))) ∧ (¬ (0 : Int32) = 0 → ((∀ w, g11 = some w → zB D ≤ w ∧ ∃ x : vp_A, M w = some (.inl (3, x))) ∧ ((¬ a2 = 0 → ((zd g11 fun b48 => zaF M b48 a1 fun v49 => wp_X0_cut_L100 D post o (FP.f2l v49) M))) ∧ (a2 = 0 → ((zd g11 fun b50 => zaF M b50 a1 fun v51 => wp_X0_cut_L100 D post o ((FP.f2i v51).toInt64) M)))))))))) ∧ (¬ (0 : Int32) = 0 → ((∀ w, g11 = some w → zB D ≤ w ∧ ∃ x : vp_A, M w = some (.inl (2, x))) ∧ ((¬ a2 = 0 → ((zd g11 fun b54 => zaL M b54 a1 fun v55 => wp_X0_cut_L66 D post o v55 M))) ∧ (a2 = 0 → ((zd g11 fun b56 => zaL M b56 a1 fun v57 => wp_X0_cut_L66 D post o ((v57.toInt32).toInt64) M))))))))))))))) ∧ (r4 = 0 → wp_X0_cut_L19 D post o M))) (a2.toInt64) (0 : Int64) (1 : Int64) M)))) o a0 a1 M))
set_option maxHeartbeats 4000000 in
set_option maxRecDepth 100000 in
theorem w_X0_cut {l : Launch} {D : zD} {post : Int64 → zM → Prop} (hlt : l.stackTraces = false) {o : Nat} {a0 : Int32} {a1 : Int32} {a2 : Int32} {M : zM} (hw : wp_X0_cut D post o a0 a1 a2 M) : zMet l D yX0_cut (ws_ yX0_cut cX0_cut 7 (some .long)) rm_X0_cut 0 0 [.ref o, .int a0, .int a1, .int a2] M zL post (fun _ _ => False) := by
  unfold wp_X0_cut at hw
  have hlv : lv_args 0 [.ref o, .int a0, .int a1, .int a2] = [(0, .ref o), (1, .int a0), (2, .int a1), (3, .int a2)] := (zargs1 rfl (zargs1 rfl (zargs1 rfl (zargs1 rfl rfl))))
  refine z_ofW hlt (by decide) (Nat.le_trans (zsl1 rfl (zsl1 rfl (zsl1 rfl (zsl1 rfl (Nat.le_refl 0 : (lg_sl []).length ≤ 0))))) (Nat.le_of_ble_eq_true rfl)) hlv ?_
  intro p e s m args below meth c ls hG hZ hl
  have hC := hG.1
  have hx := hC.x
  have hb := hC.b
  have hown := hC.o
  have hts := hC.ts
  have hlt := hG.2.2.2.2.2
  obtain ⟨cells, hce⟩ : ∃ z : Nat, z = 0 := ⟨0, rfl⟩
  obtain ⟨slots, hsl⟩ : ∃ z : Nat, z = 0 := ⟨0, rfl⟩
  refine W.cs (cells' := cells) (slots' := slots) hce.symm hsl.symm ?_
  have hk : cells ≤ 0 := Nat.le_of_eq hce
  have hn : slots ≤ 0 := Nat.le_of_eq hsl
  clear hce hsl
  refine lv_aload_n hx hb dX0_cut_0 rfl (lv_at hl 0 rfl) ?_
  refine lv_iload_n hx hb dX0_cut_1 rfl (lv_at hl 1 rfl) ?_
  refine lv_iload_n hx hb dX0_cut_2 rfl (lv_at hl 2 rfl) ?_
  obtain ⟨⟨ci0, fs0, hci0, hM0⟩, hw⟩ := hw
  obtain rfl : ci0 = 0 := List.mem_singleton.mp hci0
  refine z_callI hZ (vx_runV (As := [.int a0, .int a1]) (rest := []) hC.fix (w_X0_unlike hlt hw) (cwV 2 hts (lw_V q1645 q1647 qs27 q67 q1648) rfl rfl rfl ⟨rfl, dd_X0_unlike⟩ ⟨Nat.le_of_ble_eq_true rfl, Nat.le_of_ble_eq_true rfl⟩) (z_preV hC hZ hM0 zc0) rfl rfl hl.1 rfl (lv_room (Nat.zero_le _)) dX0_cut_3 ⟨hk, hn⟩) (fun r62 M H locs hw1 hZ => ?_) (fun q M H locs ci fs E T9 N9 hw hZ hc1 hM1 hb1 => False.elim hw)
  replace hw := hw1
  clear hw1
  refine W.cs (cells' := cells) (slots' := slots) rfl rfl ?_
  refine lv_if_ne (tgt := 19) hx hb dX0_cut_6 (by decide) (fun c122 => ?_) (fun c122 => ?_)
  · replace hw := hw.1 c122
    exact wk_X0_cut_L19 hG _ hk hn hZ (lv_sub hl [] rfl) hw
  · replace hw := hw.2 c122
    refine lv_iload_n hx hb dX0_cut_9 rfl (lv_at hl 3 rfl) ?_
    refine lv_i2l hx hb dX0_cut_10 rfl ?_
    refine lv_lconst (v := 0) hx hb dX0_cut_11 (by decide) ?_
    refine lv_lconst (v := 1) hx hb dX0_cut_12 (by decide) ?_
    refine z_callI hZ (vx_runS (As := [.long (a2.toInt64), .long (0 : Int64), .long (1 : Int64)]) (rest := []) hC.fix (w_X0_in hlt hw) (va_cwS 3 hts (lw_S q434 q435 q67 q436) rfl rfl rfl dd_X0_in ⟨Nat.le_of_ble_eq_true rfl, Nat.le_of_ble_eq_true rfl⟩) (z_preS hC hZ) rfl rfl hl.1 rfl (lv_room (Nat.zero_le _)) dX0_cut_13 ⟨hk, hn⟩) (fun r65 M H locs hw1 hZ => ?_) (fun q M H locs ci fs E T9 N9 hw hZ hc1 hM1 hb1 => False.elim hw)
    replace hw := hw1
    clear hw1
    refine W.cs (cells' := cells) (slots' := slots) rfl rfl ?_
    refine lv_if_ne (tgt := 23) hx hb dX0_cut_16 (by decide) (fun c121 => ?_) (fun c121 => ?_)
    · replace hw := hw.1 c121
      refine lv_aload_n hx hb dX0_cut_23 rfl (lv_at hl 0 rfl) ?_
      obtain ⟨fs0, g68, hM0, hx0, hw⟩ := hw
      refine z_get hC hZ hM0 zc0 7 (by decide) q408 (fun _ h9 => h9) hx0 dX0_cut_24 ?_
      refine lv_iload_n hx hb dX0_cut_27 rfl (lv_at hl 1 rfl) ?_
      obtain ⟨b69, hr0, hw⟩ := hw
      subst hr0
      obtain ⟨n0, f0, v70, hM0, hi0, hr0, hw⟩ := hw
      refine z_aald hC hZ hM0 (by decide) rfl hi0 hr0 dX0_cut_28 ?_
      obtain ⟨b71, hr0, hw⟩ := hw
      subst hr0
      obtain ⟨fs0, g72, hM0, hx0, hw⟩ := hw
      refine z_getN hC hZ hM0 zc7 0 (by decide) q395 (fun _ h9 => h9) hx0 dX0_cut_29 ?_
      refine z_astore (i := 4) (lv' := [(4, va_rf g72), (0, .ref o), (1, .int a0), (2, .int a1), (3, .int a2)]) hC dX0_cut_32 hl (by decide) rfl (fun ls hl1 => ?_)
      replace hl := hl1
      clear hl1
      refine z_aload hC dX0_cut_34 (lv_at hl 0 rfl) ?_
      rcases hw with ⟨w0, x0, hr0, hb0, hM0, hw⟩ | ⟨hc0, hw⟩
      · refine z_instAYO (r := g72) (t := .long) hC hZ hr0 hM0 hb0 (Or.inl ⟨rfl, rfl⟩) rfl q1656 dX0_cut_36 ?_
        refine lv_if_eq (tgt := 67) hx hb dX0_cut_39 (by decide) (fun c96 => ?_) (fun c96 => ?_)
        · replace hw := hw.1 c96
          refine z_aload hC dX0_cut_67 (lv_at hl 0 rfl) ?_
          rcases hw with ⟨w0, x0, hr0, hb0, hM0, hw⟩ | ⟨hc0, hw⟩
          · refine z_instAYO (r := g72) (t := .float) hC hZ hr0 hM0 hb0 (Or.inr (Or.inl ⟨rfl, rfl⟩)) rfl q1657 dX0_cut_69 ?_
            refine lv_if_eq (tgt := 101) hx hb dX0_cut_72 (by decide) (fun c81 => ?_) (fun c81 => ?_)
            · replace hw := hw.1 c81
              refine z_aload hC dX0_cut_101 (lv_at hl 0 rfl) ?_
              obtain ⟨hc0, hw⟩ := hw
              refine z_castAO (r := g72) (t := .double) hC hZ hc0 (Or.inr (Or.inr ⟨rfl, rfl⟩)) rfl q1658 dX0_cut_103 ?_
              refine lv_iload_n hx hb dX0_cut_106 rfl (lv_at hl 3 rfl) ?_
              obtain ⟨b73, hr0, hw⟩ := hw
              subst hr0
              obtain ⟨n0, f0, hM0, hi0, hw⟩ := hw
              refine z_dald hC hZ hM0 hi0 dX0_cut_107 ?_
              generalize f0 _ = v74 at hw ⊢
              refine lv_dstore (i := 5) (lv' := [(5, .double v74), (4, .ref b73), (0, .ref o), (1, .int a0), (2, .int a1), (3, .int a2)]) hx hb dX0_cut_108 hl (by decide) rfl (fun ls hl1 => ?_)
              replace hl := hl1
              clear hl1
              refine lv_iload_n hx hb dX0_cut_110 rfl (lv_at hl 5 rfl) ?_
              refine lv_if_ne (tgt := 121) hx hb dX0_cut_111 (by decide) (fun c75 => ?_) (fun c75 => ?_)
              · replace hw := hw.1 c75
                refine lv_dload hx hb dX0_cut_121 (lv_at hl 0 rfl) ?_
                refine lv_d2l hx hb dX0_cut_123 ?_
                exact wk_X0_cut_L124 hG _ _ hk hn hZ (lv_sub hl [] rfl) hw
              · replace hw := hw.2 c75
                refine lv_dload hx hb dX0_cut_114 (lv_at hl 0 rfl) ?_
                refine lv_d2i hx hb dX0_cut_116 ?_
                refine lv_i2l hx hb dX0_cut_117 rfl ?_
                refine lv_goto (tgt := 124) hx hb dX0_cut_118 (by decide) ?_
                exact wk_X0_cut_L124 hG _ _ hk hn hZ (lv_sub hl [] rfl) hw
            · replace hw := hw.2 c81
              refine z_aload hC dX0_cut_75 (lv_at hl 0 rfl) ?_
              obtain ⟨hc0, hw⟩ := hw
              refine z_castAO (r := g72) (t := .float) hC hZ hc0 (Or.inr (Or.inl ⟨rfl, rfl⟩)) rfl q1657 dX0_cut_77 ?_
              refine z_astore (i := 5) (lv' := [(5, va_rf g72), (4, va_rf g72), (0, .ref o), (1, .int a0), (2, .int a1), (3, .int a2)]) hC dX0_cut_80 hl (by decide) (zfc rfl (zfk (zfa rfl) (zfk rfl (zfk rfl (zfk rfl (zfk rfl rfl)))))) (fun ls hl1 => ?_)
              replace hl := hl1
              clear hl1
              refine lv_iload_n hx hb dX0_cut_82 rfl (lv_at hl 5 rfl) ?_
              refine lv_if_ne (tgt := 95) hx hb dX0_cut_83 (by decide) (fun c80 => ?_) (fun c80 => ?_)
              · replace hw := hw.1 c80
                refine z_aload hC dX0_cut_95 (lv_at hl 0 rfl) ?_
                refine lv_iload_n hx hb dX0_cut_97 rfl (lv_at hl 4 rfl) ?_
                obtain ⟨b76, hr0, hw⟩ := hw
                subst hr0
                obtain ⟨n0, f0, hM0, hi0, hw⟩ := hw
                refine z_fald hC hZ hM0 hi0 dX0_cut_98 ?_
                generalize f0 _ = v77 at hw ⊢
                refine lv_f2l hx hb dX0_cut_99 ?_
                exact wk_X0_cut_L100 hG _ _ hk hn hZ (lv_sub hl [] rfl) hw
              · replace hw := hw.2 c80
                refine z_aload hC dX0_cut_86 (lv_at hl 0 rfl) ?_
                refine lv_iload_n hx hb dX0_cut_88 rfl (lv_at hl 4 rfl) ?_
                obtain ⟨b78, hr0, hw⟩ := hw
                subst hr0
                obtain ⟨n0, f0, hM0, hi0, hw⟩ := hw
                refine z_fald hC hZ hM0 hi0 dX0_cut_89 ?_
                generalize f0 _ = v79 at hw ⊢
                refine lv_f2i hx hb dX0_cut_90 ?_
                refine lv_i2l hx hb dX0_cut_91 rfl ?_
                refine lv_goto (tgt := 100) hx hb dX0_cut_92 (by decide) ?_
                exact wk_X0_cut_L100 hG _ _ hk hn hZ (lv_sub hl [] rfl) hw
          · refine z_instANO (r := g72) (t1 := .long) (t2 := .double) hC hZ hc0 (Or.inl ⟨rfl, rfl⟩) (Or.inr (Or.inr ⟨rfl, rfl⟩)) (by decide) (by decide) q1657 dX0_cut_69 ?_
            refine lv_if_eq (tgt := 101) hx hb dX0_cut_72 (by decide) (fun c90 => ?_) (fun c90 => ?_)
            · replace hw := hw.1 c90
              refine z_aload hC dX0_cut_101 (lv_at hl 0 rfl) ?_
              obtain ⟨hc0, hw⟩ := hw
              refine z_castAO (r := g72) (t := .double) hC hZ hc0 (Or.inr (Or.inr ⟨rfl, rfl⟩)) rfl q1658 dX0_cut_103 ?_
              refine lv_iload_n hx hb dX0_cut_106 rfl (lv_at hl 3 rfl) ?_
              obtain ⟨b82, hr0, hw⟩ := hw
              subst hr0
              obtain ⟨n0, f0, hM0, hi0, hw⟩ := hw
              refine z_dald hC hZ hM0 hi0 dX0_cut_107 ?_
              generalize f0 _ = v83 at hw ⊢
              refine lv_dstore (i := 5) (lv' := [(5, .double v83), (4, .ref b82), (0, .ref o), (1, .int a0), (2, .int a1), (3, .int a2)]) hx hb dX0_cut_108 hl (by decide) rfl (fun ls hl1 => ?_)
              replace hl := hl1
              clear hl1
              refine lv_iload_n hx hb dX0_cut_110 rfl (lv_at hl 5 rfl) ?_
              refine lv_if_ne (tgt := 121) hx hb dX0_cut_111 (by decide) (fun c84 => ?_) (fun c84 => ?_)
              · replace hw := hw.1 c84
                refine lv_dload hx hb dX0_cut_121 (lv_at hl 0 rfl) ?_
                refine lv_d2l hx hb dX0_cut_123 ?_
                exact wk_X0_cut_L124 hG _ _ hk hn hZ (lv_sub hl [] rfl) hw
              · replace hw := hw.2 c84
                refine lv_dload hx hb dX0_cut_114 (lv_at hl 0 rfl) ?_
                refine lv_d2i hx hb dX0_cut_116 ?_
                refine lv_i2l hx hb dX0_cut_117 rfl ?_
                refine lv_goto (tgt := 124) hx hb dX0_cut_118 (by decide) ?_
                exact wk_X0_cut_L124 hG _ _ hk hn hZ (lv_sub hl [] rfl) hw
            · replace hw := hw.2 c90
              refine z_aload hC dX0_cut_75 (lv_at hl 0 rfl) ?_
              obtain ⟨hc0, hw⟩ := hw
              refine z_castAO (r := g72) (t := .float) hC hZ hc0 (Or.inr (Or.inl ⟨rfl, rfl⟩)) rfl q1657 dX0_cut_77 ?_
              refine z_astore (i := 5) (lv' := [(5, va_rf g72), (4, va_rf g72), (0, .ref o), (1, .int a0), (2, .int a1), (3, .int a2)]) hC dX0_cut_80 hl (by decide) (zfc rfl (zfk (zfa rfl) (zfk rfl (zfk rfl (zfk rfl (zfk rfl rfl)))))) (fun ls hl1 => ?_)
              replace hl := hl1
              clear hl1
              refine lv_iload_n hx hb dX0_cut_82 rfl (lv_at hl 5 rfl) ?_
              refine lv_if_ne (tgt := 95) hx hb dX0_cut_83 (by decide) (fun c89 => ?_) (fun c89 => ?_)
              · replace hw := hw.1 c89
                refine z_aload hC dX0_cut_95 (lv_at hl 0 rfl) ?_
                refine lv_iload_n hx hb dX0_cut_97 rfl (lv_at hl 4 rfl) ?_
                obtain ⟨b85, hr0, hw⟩ := hw
                subst hr0
                obtain ⟨n0, f0, hM0, hi0, hw⟩ := hw
                refine z_fald hC hZ hM0 hi0 dX0_cut_98 ?_
                generalize f0 _ = v86 at hw ⊢
                refine lv_f2l hx hb dX0_cut_99 ?_
                exact wk_X0_cut_L100 hG _ _ hk hn hZ (lv_sub hl [] rfl) hw
              · replace hw := hw.2 c89
                refine z_aload hC dX0_cut_86 (lv_at hl 0 rfl) ?_
                refine lv_iload_n hx hb dX0_cut_88 rfl (lv_at hl 4 rfl) ?_
                obtain ⟨b87, hr0, hw⟩ := hw
                subst hr0
                obtain ⟨n0, f0, hM0, hi0, hw⟩ := hw
                refine z_fald hC hZ hM0 hi0 dX0_cut_89 ?_
                generalize f0 _ = v88 at hw ⊢
                refine lv_f2i hx hb dX0_cut_90 ?_
                refine lv_i2l hx hb dX0_cut_91 rfl ?_
                refine lv_goto (tgt := 100) hx hb dX0_cut_92 (by decide) ?_
                exact wk_X0_cut_L100 hG _ _ hk hn hZ (lv_sub hl [] rfl) hw
        · replace hw := hw.2 c96
          refine z_aload hC dX0_cut_42 (lv_at hl 0 rfl) ?_
          obtain ⟨hc0, hw⟩ := hw
          refine z_castAO (r := g72) (t := .long) hC hZ hc0 (Or.inl ⟨rfl, rfl⟩) rfl q1656 dX0_cut_44 ?_
          refine z_astore (i := 5) (lv' := [(5, va_rf g72), (4, va_rf g72), (0, .ref o), (1, .int a0), (2, .int a1), (3, .int a2)]) hC dX0_cut_47 hl (by decide) (zfc rfl (zfk (zfa rfl) (zfk rfl (zfk rfl (zfk rfl (zfk rfl rfl)))))) (fun ls hl1 => ?_)
          replace hl := hl1
          clear hl1
          refine lv_iload_n hx hb dX0_cut_49 rfl (lv_at hl 5 rfl) ?_
          refine lv_if_ne (tgt := 62) hx hb dX0_cut_50 (by decide) (fun c95 => ?_) (fun c95 => ?_)
          · replace hw := hw.1 c95
            refine z_aload hC dX0_cut_62 (lv_at hl 0 rfl) ?_
            refine lv_iload_n hx hb dX0_cut_64 rfl (lv_at hl 4 rfl) ?_
            obtain ⟨b91, hr0, hw⟩ := hw
            subst hr0
            obtain ⟨n0, f0, hM0, hi0, hw⟩ := hw
            refine z_lald hC hZ hM0 hi0 dX0_cut_65 ?_
            generalize f0 _ = v92 at hw ⊢
            exact wk_X0_cut_L66 hG _ _ hk hn hZ (lv_sub hl [] rfl) hw
          · replace hw := hw.2 c95
            refine z_aload hC dX0_cut_53 (lv_at hl 0 rfl) ?_
            refine lv_iload_n hx hb dX0_cut_55 rfl (lv_at hl 4 rfl) ?_
            obtain ⟨b93, hr0, hw⟩ := hw
            subst hr0
            obtain ⟨n0, f0, hM0, hi0, hw⟩ := hw
            refine z_lald hC hZ hM0 hi0 dX0_cut_56 ?_
            generalize f0 _ = v94 at hw ⊢
            refine lv_l2i hx hb dX0_cut_57 rfl ?_
            refine lv_i2l hx hb dX0_cut_58 rfl ?_
            refine lv_goto (tgt := 66) hx hb dX0_cut_59 (by decide) ?_
            exact wk_X0_cut_L66 hG _ _ hk hn hZ (lv_sub hl [] rfl) hw
      · refine z_instANO (r := g72) (t1 := .float) (t2 := .double) hC hZ hc0 (Or.inr (Or.inl ⟨rfl, rfl⟩)) (Or.inr (Or.inr ⟨rfl, rfl⟩)) (by decide) (by decide) q1656 dX0_cut_36 ?_
        refine lv_if_eq (tgt := 67) hx hb dX0_cut_39 (by decide) (fun c120 => ?_) (fun c120 => ?_)
        · replace hw := hw.1 c120
          refine z_aload hC dX0_cut_67 (lv_at hl 0 rfl) ?_
          rcases hw with ⟨w0, x0, hr0, hb0, hM0, hw⟩ | ⟨hc0, hw⟩
          · refine z_instAYO (r := g72) (t := .float) hC hZ hr0 hM0 hb0 (Or.inr (Or.inl ⟨rfl, rfl⟩)) rfl q1657 dX0_cut_69 ?_
            refine lv_if_eq (tgt := 101) hx hb dX0_cut_72 (by decide) (fun c105 => ?_) (fun c105 => ?_)
            · replace hw := hw.1 c105
              refine z_aload hC dX0_cut_101 (lv_at hl 0 rfl) ?_
              obtain ⟨hc0, hw⟩ := hw
              refine z_castAO (r := g72) (t := .double) hC hZ hc0 (Or.inr (Or.inr ⟨rfl, rfl⟩)) rfl q1658 dX0_cut_103 ?_
              refine lv_iload_n hx hb dX0_cut_106 rfl (lv_at hl 3 rfl) ?_
              obtain ⟨b97, hr0, hw⟩ := hw
              subst hr0
              obtain ⟨n0, f0, hM0, hi0, hw⟩ := hw
              refine z_dald hC hZ hM0 hi0 dX0_cut_107 ?_
              generalize f0 _ = v98 at hw ⊢
              refine lv_dstore (i := 5) (lv' := [(5, .double v98), (4, .ref b97), (0, .ref o), (1, .int a0), (2, .int a1), (3, .int a2)]) hx hb dX0_cut_108 hl (by decide) rfl (fun ls hl1 => ?_)
              replace hl := hl1
              clear hl1
              refine lv_iload_n hx hb dX0_cut_110 rfl (lv_at hl 5 rfl) ?_
              refine lv_if_ne (tgt := 121) hx hb dX0_cut_111 (by decide) (fun c99 => ?_) (fun c99 => ?_)
              · replace hw := hw.1 c99
                refine lv_dload hx hb dX0_cut_121 (lv_at hl 0 rfl) ?_
                refine lv_d2l hx hb dX0_cut_123 ?_
                exact wk_X0_cut_L124 hG _ _ hk hn hZ (lv_sub hl [] rfl) hw
              · replace hw := hw.2 c99
                refine lv_dload hx hb dX0_cut_114 (lv_at hl 0 rfl) ?_
                refine lv_d2i hx hb dX0_cut_116 ?_
                refine lv_i2l hx hb dX0_cut_117 rfl ?_
                refine lv_goto (tgt := 124) hx hb dX0_cut_118 (by decide) ?_
                exact wk_X0_cut_L124 hG _ _ hk hn hZ (lv_sub hl [] rfl) hw
            · replace hw := hw.2 c105
              refine z_aload hC dX0_cut_75 (lv_at hl 0 rfl) ?_
              obtain ⟨hc0, hw⟩ := hw
              refine z_castAO (r := g72) (t := .float) hC hZ hc0 (Or.inr (Or.inl ⟨rfl, rfl⟩)) rfl q1657 dX0_cut_77 ?_
              refine z_astore (i := 5) (lv' := [(5, va_rf g72), (4, va_rf g72), (0, .ref o), (1, .int a0), (2, .int a1), (3, .int a2)]) hC dX0_cut_80 hl (by decide) (zfc rfl (zfk (zfa rfl) (zfk rfl (zfk rfl (zfk rfl (zfk rfl rfl)))))) (fun ls hl1 => ?_)
              replace hl := hl1
              clear hl1
              refine lv_iload_n hx hb dX0_cut_82 rfl (lv_at hl 5 rfl) ?_
              refine lv_if_ne (tgt := 95) hx hb dX0_cut_83 (by decide) (fun c104 => ?_) (fun c104 => ?_)
              · replace hw := hw.1 c104
                refine z_aload hC dX0_cut_95 (lv_at hl 0 rfl) ?_
                refine lv_iload_n hx hb dX0_cut_97 rfl (lv_at hl 4 rfl) ?_
                obtain ⟨b100, hr0, hw⟩ := hw
                subst hr0
                obtain ⟨n0, f0, hM0, hi0, hw⟩ := hw
                refine z_fald hC hZ hM0 hi0 dX0_cut_98 ?_
                generalize f0 _ = v101 at hw ⊢
                refine lv_f2l hx hb dX0_cut_99 ?_
                exact wk_X0_cut_L100 hG _ _ hk hn hZ (lv_sub hl [] rfl) hw
              · replace hw := hw.2 c104
                refine z_aload hC dX0_cut_86 (lv_at hl 0 rfl) ?_
                refine lv_iload_n hx hb dX0_cut_88 rfl (lv_at hl 4 rfl) ?_
                obtain ⟨b102, hr0, hw⟩ := hw
                subst hr0
                obtain ⟨n0, f0, hM0, hi0, hw⟩ := hw
                refine z_fald hC hZ hM0 hi0 dX0_cut_89 ?_
                generalize f0 _ = v103 at hw ⊢
                refine lv_f2i hx hb dX0_cut_90 ?_
                refine lv_i2l hx hb dX0_cut_91 rfl ?_
                refine lv_goto (tgt := 100) hx hb dX0_cut_92 (by decide) ?_
                exact wk_X0_cut_L100 hG _ _ hk hn hZ (lv_sub hl [] rfl) hw
          · refine z_instANO (r := g72) (t1 := .long) (t2 := .double) hC hZ hc0 (Or.inl ⟨rfl, rfl⟩) (Or.inr (Or.inr ⟨rfl, rfl⟩)) (by decide) (by decide) q1657 dX0_cut_69 ?_
            refine lv_if_eq (tgt := 101) hx hb dX0_cut_72 (by decide) (fun c114 => ?_) (fun c114 => ?_)
            · replace hw := hw.1 c114
              refine z_aload hC dX0_cut_101 (lv_at hl 0 rfl) ?_
              obtain ⟨hc0, hw⟩ := hw
              refine z_castAO (r := g72) (t := .double) hC hZ hc0 (Or.inr (Or.inr ⟨rfl, rfl⟩)) rfl q1658 dX0_cut_103 ?_
              refine lv_iload_n hx hb dX0_cut_106 rfl (lv_at hl 3 rfl) ?_
              obtain ⟨b106, hr0, hw⟩ := hw
              subst hr0
              obtain ⟨n0, f0, hM0, hi0, hw⟩ := hw
              refine z_dald hC hZ hM0 hi0 dX0_cut_107 ?_
              generalize f0 _ = v107 at hw ⊢
              refine lv_dstore (i := 5) (lv' := [(5, .double v107), (4, .ref b106), (0, .ref o), (1, .int a0), (2, .int a1), (3, .int a2)]) hx hb dX0_cut_108 hl (by decide) rfl (fun ls hl1 => ?_)
              replace hl := hl1
              clear hl1
              refine lv_iload_n hx hb dX0_cut_110 rfl (lv_at hl 5 rfl) ?_
              refine lv_if_ne (tgt := 121) hx hb dX0_cut_111 (by decide) (fun c108 => ?_) (fun c108 => ?_)
              · replace hw := hw.1 c108
                refine lv_dload hx hb dX0_cut_121 (lv_at hl 0 rfl) ?_
                refine lv_d2l hx hb dX0_cut_123 ?_
                exact wk_X0_cut_L124 hG _ _ hk hn hZ (lv_sub hl [] rfl) hw
              · replace hw := hw.2 c108
                refine lv_dload hx hb dX0_cut_114 (lv_at hl 0 rfl) ?_
                refine lv_d2i hx hb dX0_cut_116 ?_
                refine lv_i2l hx hb dX0_cut_117 rfl ?_
                refine lv_goto (tgt := 124) hx hb dX0_cut_118 (by decide) ?_
                exact wk_X0_cut_L124 hG _ _ hk hn hZ (lv_sub hl [] rfl) hw
            · replace hw := hw.2 c114
              refine z_aload hC dX0_cut_75 (lv_at hl 0 rfl) ?_
              obtain ⟨hc0, hw⟩ := hw
              refine z_castAO (r := g72) (t := .float) hC hZ hc0 (Or.inr (Or.inl ⟨rfl, rfl⟩)) rfl q1657 dX0_cut_77 ?_
              refine z_astore (i := 5) (lv' := [(5, va_rf g72), (4, va_rf g72), (0, .ref o), (1, .int a0), (2, .int a1), (3, .int a2)]) hC dX0_cut_80 hl (by decide) (zfc rfl (zfk (zfa rfl) (zfk rfl (zfk rfl (zfk rfl (zfk rfl rfl)))))) (fun ls hl1 => ?_)
              replace hl := hl1
              clear hl1
              refine lv_iload_n hx hb dX0_cut_82 rfl (lv_at hl 5 rfl) ?_
              refine lv_if_ne (tgt := 95) hx hb dX0_cut_83 (by decide) (fun c113 => ?_) (fun c113 => ?_)
              · replace hw := hw.1 c113
                refine z_aload hC dX0_cut_95 (lv_at hl 0 rfl) ?_
                refine lv_iload_n hx hb dX0_cut_97 rfl (lv_at hl 4 rfl) ?_
                obtain ⟨b109, hr0, hw⟩ := hw
                subst hr0
                obtain ⟨n0, f0, hM0, hi0, hw⟩ := hw
                refine z_fald hC hZ hM0 hi0 dX0_cut_98 ?_
                generalize f0 _ = v110 at hw ⊢
                refine lv_f2l hx hb dX0_cut_99 ?_
                exact wk_X0_cut_L100 hG _ _ hk hn hZ (lv_sub hl [] rfl) hw
              · replace hw := hw.2 c113
                refine z_aload hC dX0_cut_86 (lv_at hl 0 rfl) ?_
                refine lv_iload_n hx hb dX0_cut_88 rfl (lv_at hl 4 rfl) ?_
                obtain ⟨b111, hr0, hw⟩ := hw
                subst hr0
                obtain ⟨n0, f0, hM0, hi0, hw⟩ := hw
                refine z_fald hC hZ hM0 hi0 dX0_cut_89 ?_
                generalize f0 _ = v112 at hw ⊢
                refine lv_f2i hx hb dX0_cut_90 ?_
                refine lv_i2l hx hb dX0_cut_91 rfl ?_
                refine lv_goto (tgt := 100) hx hb dX0_cut_92 (by decide) ?_
                exact wk_X0_cut_L100 hG _ _ hk hn hZ (lv_sub hl [] rfl) hw
        · replace hw := hw.2 c120
          refine z_aload hC dX0_cut_42 (lv_at hl 0 rfl) ?_
          obtain ⟨hc0, hw⟩ := hw
          refine z_castAO (r := g72) (t := .long) hC hZ hc0 (Or.inl ⟨rfl, rfl⟩) rfl q1656 dX0_cut_44 ?_
          refine z_astore (i := 5) (lv' := [(5, va_rf g72), (4, va_rf g72), (0, .ref o), (1, .int a0), (2, .int a1), (3, .int a2)]) hC dX0_cut_47 hl (by decide) (zfc rfl (zfk (zfa rfl) (zfk rfl (zfk rfl (zfk rfl (zfk rfl rfl)))))) (fun ls hl1 => ?_)
          replace hl := hl1
          clear hl1
          refine lv_iload_n hx hb dX0_cut_49 rfl (lv_at hl 5 rfl) ?_
          refine lv_if_ne (tgt := 62) hx hb dX0_cut_50 (by decide) (fun c119 => ?_) (fun c119 => ?_)
          · replace hw := hw.1 c119
            refine z_aload hC dX0_cut_62 (lv_at hl 0 rfl) ?_
            refine lv_iload_n hx hb dX0_cut_64 rfl (lv_at hl 4 rfl) ?_
            obtain ⟨b115, hr0, hw⟩ := hw
            subst hr0
            obtain ⟨n0, f0, hM0, hi0, hw⟩ := hw
            refine z_lald hC hZ hM0 hi0 dX0_cut_65 ?_
            generalize f0 _ = v116 at hw ⊢
            exact wk_X0_cut_L66 hG _ _ hk hn hZ (lv_sub hl [] rfl) hw
          · replace hw := hw.2 c119
            refine z_aload hC dX0_cut_53 (lv_at hl 0 rfl) ?_
            refine lv_iload_n hx hb dX0_cut_55 rfl (lv_at hl 4 rfl) ?_
            obtain ⟨b117, hr0, hw⟩ := hw
            subst hr0
            obtain ⟨n0, f0, hM0, hi0, hw⟩ := hw
            refine z_lald hC hZ hM0 hi0 dX0_cut_56 ?_
            generalize f0 _ = v118 at hw ⊢
            refine lv_l2i hx hb dX0_cut_57 rfl ?_
            refine lv_i2l hx hb dX0_cut_58 rfl ?_
            refine lv_goto (tgt := 66) hx hb dX0_cut_59 (by decide) ?_
            exact wk_X0_cut_L66 hG _ _ hk hn hZ (lv_sub hl [] rfl) hw
    · replace hw := hw.2 c121
      exact wk_X0_cut_L19 hG _ hk hn hZ (lv_sub hl [] rfl) hw
