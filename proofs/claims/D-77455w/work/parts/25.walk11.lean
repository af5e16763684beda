set_option maxRecDepth 100000
theorem dd_X9_behindBrace : yX9_behindBrace.cls ≠ "java/lang/invoke/MethodHandle" ∧ yX9_behindBrace.cls ≠ "java/lang/invoke/VarHandle" ∧ (parseMethodDescriptor yX9_behindBrace.desc).map (fun d => d.parameters.length) = some 2 := by decide +kernel
theorem dd_X9_choiceAt : yX9_choiceAt.cls ≠ "java/lang/invoke/MethodHandle" ∧ yX9_choiceAt.cls ≠ "java/lang/invoke/VarHandle" ∧ (parseMethodDescriptor yX9_choiceAt.desc).map (fun d => d.parameters.length) = some 2 := by decide +kernel
theorem dd_X9_groups : yX9_groups.cls ≠ "java/lang/invoke/MethodHandle" ∧ yX9_groups.cls ≠ "java/lang/invoke/VarHandle" ∧ (parseMethodDescriptor yX9_groups.desc).map (fun d => d.parameters.length) = some 2 := by decide +kernel
theorem dd_X9_isSign : yX9_isSign.cls ≠ "java/lang/invoke/MethodHandle" ∧ yX9_isSign.cls ≠ "java/lang/invoke/VarHandle" ∧ (parseMethodDescriptor yX9_isSign.desc).map (fun d => d.parameters.length) = some 1 := by decide +kernel
theorem dd_X9_joinerOfTwo : yX9_joinerOfTwo.cls ≠ "java/lang/invoke/MethodHandle" ∧ yX9_joinerOfTwo.cls ≠ "java/lang/invoke/VarHandle" ∧ (parseMethodDescriptor yX9_joinerOfTwo.desc).map (fun d => d.parameters.length) = some 1 := by decide +kernel
theorem dd_X9_puts : yX9_puts.cls ≠ "java/lang/invoke/MethodHandle" ∧ yX9_puts.cls ≠ "java/lang/invoke/VarHandle" ∧ (parseMethodDescriptor yX9_puts.desc).map (fun d => d.parameters.length) = some 0 := by decide +kernel
theorem dd_X9_readsBrace : yX9_readsBrace.cls ≠ "java/lang/invoke/MethodHandle" ∧ yX9_readsBrace.cls ≠ "java/lang/invoke/VarHandle" ∧ (parseMethodDescriptor yX9_readsBrace.desc).map (fun d => d.parameters.length) = some 2 := by decide +kernel
theorem dd_X9_shapes : yX9_shapes.cls ≠ "java/lang/invoke/MethodHandle" ∧ yX9_shapes.cls ≠ "java/lang/invoke/VarHandle" ∧ (parseMethodDescriptor yX9_shapes.desc).map (fun d => d.parameters.length) = some 2 := by decide +kernel
theorem dd_X9_writes : yX9_writes.cls ≠ "java/lang/invoke/MethodHandle" ∧ yX9_writes.cls ≠ "java/lang/invoke/VarHandle" ∧ (parseMethodDescriptor yX9_writes.desc).map (fun d => d.parameters.length) = some 1 := by decide +kernel
theorem dd_X9_writesAll : yX9_writesAll.cls ≠ "java/lang/invoke/MethodHandle" ∧ yX9_writesAll.cls ≠ "java/lang/invoke/VarHandle" ∧ (parseMethodDescriptor yX9_writesAll.desc).map (fun d => d.parameters.length) = some 1 := by decide +kernel
theorem dd_X9_writesBrace : yX9_writesBrace.cls ≠ "java/lang/invoke/MethodHandle" ∧ yX9_writesBrace.cls ≠ "java/lang/invoke/VarHandle" ∧ (parseMethodDescriptor yX9_writesBrace.desc).map (fun d => d.parameters.length) = some 3 := by decide +kernel
theorem dd_X9_writesDecimal : yX9_writesDecimal.cls ≠ "java/lang/invoke/MethodHandle" ∧ yX9_writesDecimal.cls ≠ "java/lang/invoke/VarHandle" ∧ (parseMethodDescriptor yX9_writesDecimal.desc).map (fun d => d.parameters.length) = some 2 := by decide +kernel
theorem dd_X9_writesDigits : yX9_writesDigits.cls ≠ "java/lang/invoke/MethodHandle" ∧ yX9_writesDigits.cls ≠ "java/lang/invoke/VarHandle" ∧ (parseMethodDescriptor yX9_writesDigits.desc).map (fun d => d.parameters.length) = some 2 := by decide +kernel
theorem dd_X9_writesInt : yX9_writesInt.cls ≠ "java/lang/invoke/MethodHandle" ∧ yX9_writesInt.cls ≠ "java/lang/invoke/VarHandle" ∧ (parseMethodDescriptor yX9_writesInt.desc).map (fun d => d.parameters.length) = some 1 := by decide +kernel
theorem dd_X9_writesList : yX9_writesList.cls ≠ "java/lang/invoke/MethodHandle" ∧ yX9_writesList.cls ≠ "java/lang/invoke/VarHandle" ∧ (parseMethodDescriptor yX9_writesList.desc).map (fun d => d.parameters.length) = some 1 := by decide +kernel
theorem dd_X9_writesMessage : yX9_writesMessage.cls ≠ "java/lang/invoke/MethodHandle" ∧ yX9_writesMessage.cls ≠ "java/lang/invoke/VarHandle" ∧ (parseMethodDescriptor yX9_writesMessage.desc).map (fun d => d.parameters.length) = some 3 := by decide +kernel
theorem dd_X9_writesPlainly : yX9_writesPlainly.cls ≠ "java/lang/invoke/MethodHandle" ∧ yX9_writesPlainly.cls ≠ "java/lang/invoke/VarHandle" ∧ (parseMethodDescriptor yX9_writesPlainly.desc).map (fun d => d.parameters.length) = some 1 := by decide +kernel
theorem dd_X9_writesPoint : yX9_writesPoint.cls ≠ "java/lang/invoke/MethodHandle" ∧ yX9_writesPoint.cls ≠ "java/lang/invoke/VarHandle" ∧ (parseMethodDescriptor yX9_writesPoint.desc).map (fun d => d.parameters.length) = some 0 := by decide +kernel
theorem dd_X9_writesShaped : yX9_writesShaped.cls ≠ "java/lang/invoke/MethodHandle" ∧ yX9_writesShaped.cls ≠ "java/lang/invoke/VarHandle" ∧ (parseMethodDescriptor yX9_writesShaped.desc).map (fun d => d.parameters.length) = some 2 := by decide +kernel
def wp_X9_readsMessage_L54 (D : zD) (P : (Int32 → zM → Prop) → Nat → Int32 → Int32 → zM → Prop) (post : Int32 → zM → Prop) (o : Nat) (k0 : Int32 → Int32 → zM → Prop) (x1 : Int32) (x2 : Int32) (M : zM) : Prop :=
    (zgI M o 8 24 fun g1 => (zp D M o 8 24 (.int (g1 + (1 : Int32))) fun M => k0 x1 x2 M))
set_option maxHeartbeats 4000000 in
set_option maxRecDepth 100000 in
theorem wk_X9_readsMessage_L54 {p : Program} {l : Launch} {e : Env} {s : State} {m : MethodId} {args : Array Value} {below : List Frame} {meth : Method} {c : Code} {D : zD} {P : (Int32 → zM → Prop) → Nat → Int32 → Int32 → zM → Prop} {post : Int32 → zM → Prop} {d : Nat} {o : Nat} (hG : zGx p l s m args meth c cX9_readsMessage 4 "PluralBranchesModel" D (some .boolean) "readsMessage" []) (hP : ∀ (post : Int32 → zM → Prop) (o : Nat) (a0 : Int32) (a1 : Int32) (M : zM), P post o a0 a1 M → zMet l D yX9_readsMessage (ws_ yX9_readsMessage cX9_readsMessage 4 (some .boolean)) (rm_X9_readsMessage d) 0 0 [.ref o, .int a0, .int a1] M zI post (fun _ _ => False)) (k0 : Int32 → Int32 → zM → Prop) (hkz : ∀ {H : Heap} {locs : List Loc} {cells slots : Nat} {ls : Array Slot} (x1 : Int32) (x2 : Int32) (M : zM), cells ≤ 0 → slots ≤ 0 → zS D M H locs → lv_has ls 4 [(0, .ref o), (1, .int x1), (2, .int x2)] → k0 x1 x2 M → W p l e (rm_X9_readsMessage (d + 1)) s m args below meth c H locs cells slots (vx_MQ below (zQ D zI post) (zX D (fun _ _ => False)) args s 0 0 (zA D)) (F0 m 0 ls [])) : ∀ {H : Heap} {locs : List Loc} {cells slots : Nat} {ls : Array Slot} (x1 : Int32) (x2 : Int32) (M : zM), cells ≤ 0 → slots ≤ 0 → zS D M H locs → lv_has ls 4 [(0, .ref o), (1, .int x1), (2, .int x2)] → wp_X9_readsMessage_L54 D P post o k0 x1 x2 M → W p l e (rm_X9_readsMessage (d + 1)) s m args below meth c H locs cells slots (vx_MQ below (zQ D zI post) (zX D (fun _ _ => False)) args s 0 0 (zA D)) (F0 m 54 ls []) := by
  have hC := hG.1
  have hx := hC.x
  have hb := hC.b
  have hown := hC.o
  have hts := hC.ts
  have hlt := hG.2.2.2.2.2
  intro H locs cells slots ls x1 x2 M hk hn hZ hl hw
  refine lv_aload_n hx hb dX9_readsMessage_54 rfl (lv_at hl 0 rfl) ?_
  refine lv_dup hx hb dX9_readsMessage_55 rfl ?_
  obtain ⟨fs0, g3, hM0, hx0, hw⟩ := hw
  refine z_get hC hZ hM0 zc8 24 (by decide) q1744 (fun _ h9 => h9) hx0 dX9_readsMessage_56 ?_
  refine lv_iconst (v := 1) hx hb dX9_readsMessage_59 (by decide) ?_
  refine lv_iadd hx hb dX9_readsMessage_60 ?_
  obtain ⟨fs0, hM0, hb0, hk0, hw⟩ := hw
  refine z_put hC hZ hM0 hb0 zc8 24 (by decide) q1744 (fun _ h9 => h9) (by decide) rfl rfl hk0 dX9_readsMessage_61 (fun H locs hZ => ?_)
  generalize zu M _ _ = M at hw hZ
  refine lv_goto (tgt := 0) hx hb dX9_readsMessage_64 (by decide) ?_
  exact hkz _ _ _ hk hn hZ (lv_sub hl [0, 1, 2] rfl) hw
def wp_X9_readsMessage_L22 (D : zD) (P : (Int32 → zM → Prop) → Nat → Int32 → Int32 → zM → Prop) (post : Int32 → zM → Prop) (o : Nat) (k0 : Int32 → Int32 → zM → Prop) (x1 : Int32) (x2 : Int32) (M : zM) : Prop :=
    (zgI M o 8 23 fun g5 => (zp D M o 8 23 (.int (g5 + (1 : Int32))) fun M => wp_X9_readsMessage_L54 D P post o k0 x1 x2 M))
set_option maxHeartbeats 4000000 in
set_option maxRecDepth 100000 in
theorem wk_X9_readsMessage_L22 {p : Program} {l : Launch} {e : Env} {s : State} {m : MethodId} {args : Array Value} {below : List Frame} {meth : Method} {c : Code} {D : zD} {P : (Int32 → zM → Prop) → Nat → Int32 → Int32 → zM → Prop} {post : Int32 → zM → Prop} {d : Nat} {o : Nat} (hG : zGx p l s m args meth c cX9_readsMessage 4 "PluralBranchesModel" D (some .boolean) "readsMessage" []) (hP : ∀ (post : Int32 → zM → Prop) (o : Nat) (a0 : Int32) (a1 : Int32) (M : zM), P post o a0 a1 M → zMet l D yX9_readsMessage (ws_ yX9_readsMessage cX9_readsMessage 4 (some .boolean)) (rm_X9_readsMessage d) 0 0 [.ref o, .int a0, .int a1] M zI post (fun _ _ => False)) (k0 : Int32 → Int32 → zM → Prop) (hkz : ∀ {H : Heap} {locs : List Loc} {cells slots : Nat} {ls : Array Slot} (x1 : Int32) (x2 : Int32) (M : zM), cells ≤ 0 → slots ≤ 0 → zS D M H locs → lv_has ls 4 [(0, .ref o), (1, .int x1), (2, .int x2)] → k0 x1 x2 M → W p l e (rm_X9_readsMessage (d + 1)) s m args below meth c H locs cells slots (vx_MQ below (zQ D zI post) (zX D (fun _ _ => False)) args s 0 0 (zA D)) (F0 m 0 ls [])) : ∀ {H : Heap} {locs : List Loc} {cells slots : Nat} {ls : Array Slot} (x1 : Int32) (x2 : Int32) (M : zM), cells ≤ 0 → slots ≤ 0 → zS D M H locs → lv_has ls 4 [(0, .ref o), (1, .int x1), (2, .int x2)] → wp_X9_readsMessage_L22 D P post o k0 x1 x2 M → W p l e (rm_X9_readsMessage (d + 1)) s m args below meth c H locs cells slots (vx_MQ below (zQ D zI post) (zX D (fun _ _ => False)) args s 0 0 (zA D)) (F0 m 22 ls []) := by
  have hC := hG.1
  have hx := hC.x
  have hb := hC.b
  have hown := hC.o
  have hts := hC.ts
  have hlt := hG.2.2.2.2.2
  intro H locs cells slots ls x1 x2 M hk hn hZ hl hw
  refine lv_aload_n hx hb dX9_readsMessage_22 rfl (lv_at hl 0 rfl) ?_
  refine lv_dup hx hb dX9_readsMessage_23 rfl ?_
  obtain ⟨fs0, g7, hM0, hx0, hw⟩ := hw
  refine z_get hC hZ hM0 zc8 23 (by decide) q1743 (fun _ h9 => h9) hx0 dX9_readsMessage_24 ?_
  refine lv_iconst (v := 1) hx hb dX9_readsMessage_27 (by decide) ?_
  refine lv_iadd hx hb dX9_readsMessage_28 ?_
  obtain ⟨fs0, hM0, hb0, hk0, hw⟩ := hw
  refine z_put hC hZ hM0 hb0 zc8 23 (by decide) q1743 (fun _ h9 => h9) (by decide) rfl rfl hk0 dX9_readsMessage_29 (fun H locs hZ => ?_)
  generalize zu M _ _ = M at hw hZ
  refine lv_goto (tgt := 54) hx hb dX9_readsMessage_32 (by decide) ?_
  exact wk_X9_readsMessage_L54 hG hP k0 hkz _ _ _ hk hn hZ (lv_sub hl [0, 1, 2] rfl) hw
def wp_X9_readsMessage_L35 (D : zD) (P : (Int32 → zM → Prop) → Nat → Int32 → Int32 → zM → Prop) (post : Int32 → zM → Prop) (o : Nat) (k0 : Int32 → Int32 → zM → Prop) (x1 : Int32) (x2 : Int32) (x3 : Int32) (M : zM) : Prop :=
    ((¬ x3 = (123 : Int32) → (narrow .boolean (.int (1 : Int32)) = .int (1 : Int32) ∧ post (1 : Int32) M)) ∧ (x3 = (123 : Int32) → ((zis M o [8] ∧ wp_X9_readsBrace D P (fun r9 M => ((¬ r9 = 0 → wp_X9_readsMessage_L54 D P post o k0 x1 x2 M) ∧ (r9 = 0 → (narrow .boolean (.int (0 : Int32)) = .int (0 : Int32) ∧ post (0 : Int32) M)))) o x1 x2 M))))
set_option maxHeartbeats 4000000 in
set_option maxRecDepth 100000 in
theorem wk_X9_readsMessage_L35 {p : Program} {l : Launch} {e : Env} {s : State} {m : MethodId} {args : Array Value} {below : List Frame} {meth : Method} {c : Code} {D : zD} {P : (Int32 → zM → Prop) → Nat → Int32 → Int32 → zM → Prop} {post : Int32 → zM → Prop} {d : Nat} {o : Nat} (hG : zGx p l s m args meth c cX9_readsMessage 4 "PluralBranchesModel" D (some .boolean) "readsMessage" []) (hP : ∀ (post : Int32 → zM → Prop) (o : Nat) (a0 : Int32) (a1 : Int32) (M : zM), P post o a0 a1 M → zMet l D yX9_readsMessage (ws_ yX9_readsMessage cX9_readsMessage 4 (some .boolean)) (rm_X9_readsMessage d) 0 0 [.ref o, .int a0, .int a1] M zI post (fun _ _ => False)) (k0 : Int32 → Int32 → zM → Prop) (hkz : ∀ {H : Heap} {locs : List Loc} {cells slots : Nat} {ls : Array Slot} (x1 : Int32) (x2 : Int32) (M : zM), cells ≤ 0 → slots ≤ 0 → zS D M H locs → lv_has ls 4 [(0, .ref o), (1, .int x1), (2, .int x2)] → k0 x1 x2 M → W p l e (rm_X9_readsMessage (d + 1)) s m args below meth c H locs cells slots (vx_MQ below (zQ D zI post) (zX D (fun _ _ => False)) args s 0 0 (zA D)) (F0 m 0 ls [])) : ∀ {H : Heap} {locs : List Loc} {cells slots : Nat} {ls : Array Slot} (x1 : Int32) (x2 : Int32) (x3 : Int32) (M : zM), cells ≤ 0 → slots ≤ 0 → zS D M H locs → lv_has ls 4 [(0, .ref o), (1, .int x1), (2, .int x2), (3, .int x3)] → wp_X9_readsMessage_L35 D P post o k0 x1 x2 x3 M → W p l e (rm_X9_readsMessage (d + 1)) s m args below meth c H locs cells slots (vx_MQ below (zQ D zI post) (zX D (fun _ _ => False)) args s 0 0 (zA D)) (F0 m 35 ls []) := by
  have hC := hG.1
  have hx := hC.x
  have hb := hC.b
  have hown := hC.o
  have hts := hC.ts
  have hlt := hG.2.2.2.2.2
  intro H locs cells slots ls x1 x2 x3 M hk hn hZ hl hw
  refine lv_iload_n hx hb dX9_readsMessage_35 rfl (lv_at hl 3 rfl) ?_
  refine lv_bipush (v := 123) hx hb dX9_readsMessage_36 (by decide) ?_
  refine lv_icmp_ne (tgt := 52) hx hb dX9_readsMessage_38 (by decide) (fun c18 => ?_) (fun c18 => ?_)
  · replace hw := hw.1 c18
    refine lv_iconst (v := 1) hx hb dX9_readsMessage_52 (by decide) ?_
    exact z_zret hG hZ hk hn hw.1 hw.2 dX9_readsMessage_53
  · replace hw := hw.2 c18
    refine lv_aload_n hx hb dX9_readsMessage_41 rfl (lv_at hl 0 rfl) ?_
    refine lv_iload_n hx hb dX9_readsMessage_42 rfl (lv_at hl 1 rfl) ?_
    refine lv_iload_n hx hb dX9_readsMessage_43 rfl (lv_at hl 2 rfl) ?_
    obtain ⟨⟨ci0, fs0, hci0, hM0⟩, hw⟩ := hw
    obtain rfl : ci0 = 8 := List.mem_singleton.mp hci0
    refine z_callI hZ (vx_runV (As := [.int x1, .int x2]) (rest := []) hC.fix (w_X9_readsBrace hlt hP hw) (cwV 2 hts (lw_V q1979 q1981 qs34 q83 q1982) rfl rfl rfl ⟨rfl, dd_X9_readsBrace⟩ ⟨(show 5 + 3 * d + 1 ≤ 3 + 3 * (d + 1) by omega), (show 8 + (8 + 11) + (159 + 77 * d) ≤ 109 + 77 * (d + 1) by omega)⟩) (z_preV hC hZ hM0 zc8) rfl rfl hl.1 rfl (lv_room (Nat.zero_le _)) dX9_readsMessage_44 ⟨hk, hn⟩) (fun r14 M H locs hw1 hZ => ?_) (fun q M H locs ci fs E T9 N9 hw hZ hc1 hM1 hb1 => False.elim hw)
    replace hw := hw1
    clear hw1
    refine W.cs (cells' := cells) (slots' := slots) rfl rfl ?_
    refine lv_if_ne (tgt := 54) hx hb dX9_readsMessage_47 (by decide) (fun c17 => ?_) (fun c17 => ?_)
    · replace hw := hw.1 c17
      exact wk_X9_readsMessage_L54 hG hP k0 hkz _ _ _ hk hn hZ (lv_sub hl [0, 1, 2] rfl) hw
    · replace hw := hw.2 c17
      refine lv_iconst (v := 0) hx hb dX9_readsMessage_50 (by decide) ?_
      exact z_zret hG hZ hk hn hw.1 hw.2 dX9_readsMessage_51
def wp_X9_readsMessage_L0 (D : zD) (P : (Int32 → zM → Prop) → Nat → Int32 → Int32 → zM → Prop) (post : Int32 → zM → Prop) (o : Nat) : Nat → Int32 → Int32 → zM → Prop
  | 0 => fun _ _ _ => False
  | f + 1 => fun x1 x2 M =>
    ((zis M o [8] ∧ wp_X9_here D (fun r19 M => (wp_X9_isSign D (fun r22 M => ((¬ r22 = 0 → wp_X9_readsMessage_L22 D P post o (wp_X9_readsMessage_L0 D P post o f) x1 x2 M) ∧ (r22 = 0 → ((¬ r19 = (35 : Int32) → wp_X9_readsMessage_L35 D P post o (wp_X9_readsMessage_L0 D P post o f) x1 x2 r19 M) ∧ (r19 = (35 : Int32) → ((x2 = 0 → wp_X9_readsMessage_L35 D P post o (wp_X9_readsMessage_L0 D P post o f) x1 x2 r19 M) ∧ (¬ x2 = 0 → wp_X9_readsMessage_L22 D P post o (wp_X9_readsMessage_L0 D P post o f) x1 x2 M))))))) r19 M)) o M))
set_option maxHeartbeats 4000000 in
set_option maxRecDepth 100000 in
theorem wk_X9_readsMessage_L0 {p : Program} {l : Launch} {e : Env} {s : State} {m : MethodId} {args : Array Value} {below : List Frame} {meth : Method} {c : Code} {D : zD} {P : (Int32 → zM → Prop) → Nat → Int32 → Int32 → zM → Prop} {post : Int32 → zM → Prop} {d : Nat} {o : Nat} (hG : zGx p l s m args meth c cX9_readsMessage 4 "PluralBranchesModel" D (some .boolean) "readsMessage" []) (hP : ∀ (post : Int32 → zM → Prop) (o : Nat) (a0 : Int32) (a1 : Int32) (M : zM), P post o a0 a1 M → zMet l D yX9_readsMessage (ws_ yX9_readsMessage cX9_readsMessage 4 (some .boolean)) (rm_X9_readsMessage d) 0 0 [.ref o, .int a0, .int a1] M zI post (fun _ _ => False)) : ∀ (f : Nat), ∀ {H : Heap} {locs : List Loc} {cells slots : Nat} {ls : Array Slot} (x1 : Int32) (x2 : Int32) (M : zM), cells ≤ 0 → slots ≤ 0 → zS D M H locs → lv_has ls 4 [(0, .ref o), (1, .int x1), (2, .int x2)] → wp_X9_readsMessage_L0 D P post o f x1 x2 M → W p l e (rm_X9_readsMessage (d + 1)) s m args below meth c H locs cells slots (vx_MQ below (zQ D zI post) (zX D (fun _ _ => False)) args s 0 0 (zA D)) (F0 m 0 ls []) := by
  have hC := hG.1
  have hx := hC.x
  have hb := hC.b
  have hown := hC.o
  have hts := hC.ts
  have hlt := hG.2.2.2.2.2
  intro f
  induction f with
  | zero =>
    intro H locs cells slots ls x1 x2 M hk hn hZ hl hw
    exact absurd hw (fun h => h)
  | succ f ih =>
    intro H locs cells slots ls x1 x2 M hk hn hZ hl hw
    refine lv_aload_n hx hb dX9_readsMessage_0 rfl (lv_at hl 0 rfl) ?_
    obtain ⟨⟨ci0, fs0, hci0, hM0⟩, hw⟩ := hw
    obtain rfl : ci0 = 8 := List.mem_singleton.mp hci0
    refine z_callI hZ (vx_runV (As := []) (rest := []) hC.fix (w_X9_here hlt hw) (cwV 0 hts (lw_V q1970 q1972 qs33 q83 q1973) rfl rfl rfl ⟨rfl, dd_X9_here⟩ ⟨(show 1 + 1 ≤ 3 + 3 * (d + 1) by omega), (show 8 + (1 + 11) + (64) ≤ 109 + 77 * (d + 1) by omega)⟩) (z_preV hC hZ hM0 zc8) rfl rfl hl.1 rfl (lv_room (Nat.zero_le _)) dX9_readsMessage_1 ⟨hk, hn⟩) (fun r28 M H locs hw1 hZ => ?_) (fun q M H locs ci fs E T9 N9 hw hZ hc1 hM1 hb1 => False.elim hw)
    replace hw := hw1
    clear hw1
    refine W.cs (cells' := cells) (slots' := slots) rfl rfl ?_
    refine lv_istore_n (i := 3) (lv' := [(3, .int r28), (0, .ref o), (1, .int x1), (2, .int x2)]) hx hb dX9_readsMessage_4 rfl hl (by decide) rfl (fun ls hl1 => ?_)
    replace hl := hl1
    clear hl1
    refine lv_iload_n hx hb dX9_readsMessage_5 rfl (lv_at hl 0 rfl) ?_
    refine z_callI hZ (vx_runS (As := [.int r28]) (rest := []) hC.fix (w_X9_isSign hlt hw) (va_cwS 1 hts (lw_S q1974 q1975 q83 q1976) rfl rfl rfl dd_X9_isSign ⟨(show 2 + 1 ≤ 3 + 3 * (d + 1) by omega), (show 8 + (1 + 11) + (89) ≤ 109 + 77 * (d + 1) by omega)⟩) (z_preS hC hZ) rfl rfl hl.1 rfl (lv_room (Nat.zero_le _)) dX9_readsMessage_6 ⟨hk, hn⟩) (fun r31 M H locs hw1 hZ => ?_) (fun q M H locs ci fs E T9 N9 hw hZ hc1 hM1 hb1 => False.elim hw)
    replace hw := hw1
    clear hw1
    refine W.cs (cells' := cells) (slots' := slots) rfl rfl ?_
    refine lv_if_ne (tgt := 22) hx hb dX9_readsMessage_9 (by decide) (fun c36 => ?_) (fun c36 => ?_)
    · replace hw := hw.1 c36
      exact wk_X9_readsMessage_L22 hG hP _ (fun {_ _ _ _ _} _z0 _z1 _z2 h1 h2 h3 h4 h5 => ih _z0 _z1 _z2 h1 h2 h3 h4 h5) _ _ _ hk hn hZ (lv_sub hl [1, 2, 3] rfl) hw
    · replace hw := hw.2 c36
      refine lv_iload_n hx hb dX9_readsMessage_12 rfl (lv_at hl 0 rfl) ?_
      refine lv_bipush (v := 35) hx hb dX9_readsMessage_13 (by decide) ?_
      refine lv_icmp_ne (tgt := 35) hx hb dX9_readsMessage_15 (by decide) (fun c35 => ?_) (fun c35 => ?_)
      · replace hw := hw.1 c35
        exact wk_X9_readsMessage_L35 hG hP _ (fun {_ _ _ _ _} _z0 _z1 _z2 h1 h2 h3 h4 h5 => ih _z0 _z1 _z2 h1 h2 h3 h4 h5) _ _ _ _ hk hn hZ (lv_sub hl [1, 2, 3, 0] rfl) hw
      · replace hw := hw.2 c35
        refine lv_iload_n hx hb dX9_readsMessage_18 rfl (lv_at hl 3 rfl) ?_
        refine lv_if_eq (tgt := 35) hx hb dX9_readsMessage_19 (by decide) (fun c34 => ?_) (fun c34 => ?_)
        · replace hw := hw.1 c34
          exact wk_X9_readsMessage_L35 hG hP _ (fun {_ _ _ _ _} _z0 _z1 _z2 h1 h2 h3 h4 h5 => ih _z0 _z1 _z2 h1 h2 h3 h4 h5) _ _ _ _ hk hn hZ (lv_sub hl [1, 2, 3, 0] rfl) hw
        · replace hw := hw.2 c34
          exact wk_X9_readsMessage_L22 hG hP _ (fun {_ _ _ _ _} _z0 _z1 _z2 h1 h2 h3 h4 h5 => ih _z0 _z1 _z2 h1 h2 h3 h4 h5) _ _ _ hk hn hZ (lv_sub hl [1, 2, 3] rfl) hw
def wp_X9_readsMessage (D : zD) : Nat → (Int32 → zM → Prop) → Nat → Int32 → Int32 → zM → Prop
  | 0 => fun _ _ _ _ _ => False
  | d + 1 => fun post o a0 a1 M =>
    (fun P => (∃ f, wp_X9_readsMessage_L0 D P post o f a0 a1 M)) (wp_X9_readsMessage D d)
set_option maxHeartbeats 4000000 in
set_option maxRecDepth 100000 in
theorem w_X9_readsMessage {l : Launch} {D : zD} (hlt : l.stackTraces = false) : ∀ (d : Nat) (post : Int32 → zM → Prop) (o : Nat) (a0 : Int32) (a1 : Int32) (M : zM), wp_X9_readsMessage D d post o a0 a1 M → zMet l D yX9_readsMessage (ws_ yX9_readsMessage cX9_readsMessage 4 (some .boolean)) (rm_X9_readsMessage d) 0 0 [.ref o, .int a0, .int a1] M zI post (fun _ _ => False) := by
  intro d
  induction d with
  | zero =>
    intro post o a0 a1 M hw
    exact absurd hw (fun h => h)
  | succ d ih =>
    intro post o a0 a1 M hw
    have hP := ih
    replace hw : (fun (P : (Int32 → zM → Prop) → Nat → Int32 → Int32 → zM → Prop) => (∃ f, wp_X9_readsMessage_L0 D P post o f a0 a1 M)) (wp_X9_readsMessage D d) := hw
    generalize wp_X9_readsMessage D d = P at hw hP
    replace hw : (∃ f, wp_X9_readsMessage_L0 D P post o f a0 a1 M) := hw
    have hlv : lv_args 0 [.ref o, .int a0, .int a1] = [(0, .ref o), (1, .int a0), (2, .int a1)] := (zargs1 rfl (zargs1 rfl (zargs1 rfl rfl)))
    refine z_ofW hlt (by decide) (Nat.le_trans (zsl1 rfl (zsl1 rfl (zsl1 rfl (Nat.le_refl 0 : (lg_sl []).length ≤ 0)))) (Nat.le_of_ble_eq_true rfl)) hlv ?_
    intro p e s m args below meth c ls hG hZ hl
    have hC := hG.1
    have hx := hC.x
    have hb := hC.b
    have hown := hC.o
    have hts := hC.ts
    have hlt := hG.2.2.2.2.2
    obtain ⟨cells, hce⟩ : ∃ z : Nat, z = 0 := ⟨0, rfl⟩
    obtain ⟨slots, hsl⟩ : ∃ z : Nat, z = 0 := ⟨0, rfl⟩
    refine W.cs (cells' := cells) (slots' := slots) hce.symm hsl.symm ?_
    have hk : cells ≤ 0 := Nat.le_of_eq hce
    have hn : slots ≤ 0 := Nat.le_of_eq hsl
    clear hce hsl
    obtain ⟨f1, hw⟩ := hw
    exact wk_X9_readsMessage_L0 hG hP f1 _ _ _ hk hn hZ (lv_sub hl [0, 1, 2] rfl) hw
abbrev rm_X9_read : Room := { frames := 22, cells := 0, slots := 0, locals := 594 }
def wp_X9_read_L129 (D : zD) (post : Int32 → zM → Prop) (o : Nat) (y0 : Int32) (M : zM) : Prop :=
    post y0 M
set_option maxHeartbeats 4000000 in
set_option maxRecDepth 100000 in
theorem wk_X9_read_L129 {p : Program} {l : Launch} {e : Env} {s : State} {m : MethodId} {args : Array Value} {below : List Frame} {meth : Method} {c : Code} {D : zD} {post : Int32 → zM → Prop} {o : Nat} (hG : zGx p l s m args meth c cX9_read 5 "PluralBranchesModel" D (some .int) "read" []) : ∀ {H : Heap} {locs : List Loc} {cells slots : Nat} {ls : Array Slot} (y0 : Int32) (M : zM), cells ≤ 0 → slots ≤ 0 → zS D M H locs → lv_has ls 5 [] → wp_X9_read_L129 D post o y0 M → W p l e rm_X9_read s m args below meth c H locs cells slots (vx_MQ below (zQ D zI post) (zX D (fun _ _ => False)) args s 0 0 (zA D)) (F0 m 129 ls [.int y0]) := by
  have hC := hG.1
  have hx := hC.x
  have hb := hC.b
  have hown := hC.o
  have hts := hC.ts
  have hlt := hG.2.2.2.2.2
  intro H locs cells slots ls y0 M hk hn hZ hl hw
  exact z_iret hG hZ hk hn hw dX9_read_129
def wp_X9_read_L106 (D : zD) (post : Int32 → zM → Prop) (o : Nat) (x2 : Int32) (M : zM) : Prop :=
    ((x2 = 0 → (zgI M o 8 23 fun g1 => wp_X9_read_L129 D post o ((-1000 : Int32) - g1) M)) ∧ (¬ x2 = 0 → (zgI M o 8 28 fun g2 => wp_X9_read_L129 D post o ((-2000 : Int32) - g2) M)))
set_option maxHeartbeats 4000000 in
set_option maxRecDepth 100000 in
theorem wk_X9_read_L106 {p : Program} {l : Launch} {e : Env} {s : State} {m : MethodId} {args : Array Value} {below : List Frame} {meth : Method} {c : Code} {D : zD} {post : Int32 → zM → Prop} {o : Nat} (hG : zGx p l s m args meth c cX9_read 5 "PluralBranchesModel" D (some .int) "read" []) : ∀ {H : Heap} {locs : List Loc} {cells slots : Nat} {ls : Array Slot} (x2 : Int32) (M : zM), cells ≤ 0 → slots ≤ 0 → zS D M H locs → lv_has ls 5 [(0, .ref o), (2, .int x2)] → wp_X9_read_L106 D post o x2 M → W p l e rm_X9_read s m args below meth c H locs cells slots (vx_MQ below (zQ D zI post) (zX D (fun _ _ => False)) args s 0 0 (zA D)) (F0 m 106 ls []) := by
  have hC := hG.1
  have hx := hC.x
  have hb := hC.b
  have hown := hC.o
  have hts := hC.ts
  have hlt := hG.2.2.2.2.2
  intro H locs cells slots ls x2 M hk hn hZ hl hw
  refine lv_iload_n hx hb dX9_read_106 rfl (lv_at hl 1 rfl) ?_
  refine lv_if_eq (tgt := 121) hx hb dX9_read_107 (by decide) (fun c6 => ?_) (fun c6 => ?_)
  · replace hw := hw.1 c6
    refine lv_sipush (v := (-1000)) hx hb dX9_read_121 (by decide) ?_
    refine lv_aload_n hx hb dX9_read_124 rfl (lv_at hl 0 rfl) ?_
    obtain ⟨fs0, g4, hM0, hx0, hw⟩ := hw
    refine z_get hC hZ hM0 zc8 23 (by decide) q1743 (fun _ h9 => h9) hx0 dX9_read_125 ?_
    refine lv_isub hx hb dX9_read_128 ?_
    exact wk_X9_read_L129 hG _ _ hk hn hZ (lv_sub hl [] rfl) hw
  · replace hw := hw.2 c6
    refine lv_sipush (v := (-2000)) hx hb dX9_read_110 (by decide) ?_
    refine lv_aload_n hx hb dX9_read_113 rfl (lv_at hl 0 rfl) ?_
    obtain ⟨fs0, g5, hM0, hx0, hw⟩ := hw
    refine z_get hC hZ hM0 zc8 28 (by decide) q1748 (fun _ h9 => h9) hx0 dX9_read_114 ?_
    refine lv_isub hx hb dX9_read_117 ?_
    refine lv_goto (tgt := 129) hx hb dX9_read_118 (by decide) ?_
    exact wk_X9_read_L129 hG _ _ hk hn hZ (lv_sub hl [] rfl) hw
def wp_X9_read_L358 (D : zD) (post : Int32 → zM → Prop) (o : Nat) : Nat → Int32 → Int32 → zM → Prop
  | 0 => fun _ _ _ => False
  | f + 1 => fun x1 x4 M =>
    (((80 : Int32) ≤ x4 → (zgI M o 8 25 fun g7 => post g7 M)) ∧ (¬ (80 : Int32) ≤ x4 → (zgR M o 8 20 fun g8 => (zgR M o 8 34 fun g9 => ((zd g9 fun b10 => zaI M b10 0 x4 fun v11 => ((zd g8 fun b12 => zsI D M b12 (((80 : Int32) * x1) + x4) v11 fun M => (zgR M o 8 21 fun g13 => (zgR M o 8 35 fun g14 => ((zd g14 fun b15 => zaI M b15 0 x4 fun v16 => ((zd g13 fun b17 => zsI D M b17 (((80 : Int32) * x1) + x4) v16 fun M => wp_X9_read_L358 D post o f x1 (x4 + 1) M))))))))))))))
set_option maxHeartbeats 4000000 in
set_option maxRecDepth 100000 in
theorem wk_X9_read_L358 {p : Program} {l : Launch} {e : Env} {s : State} {m : MethodId} {args : Array Value} {below : List Frame} {meth : Method} {c : Code} {D : zD} {post : Int32 → zM → Prop} {o : Nat} (hG : zGx p l s m args meth c cX9_read 5 "PluralBranchesModel" D (some .int) "read" []) : ∀ (f : Nat), ∀ {H : Heap} {locs : List Loc} {cells slots : Nat} {ls : Array Slot} (x1 : Int32) (x4 : Int32) (M : zM), cells ≤ 0 → slots ≤ 0 → zS D M H locs → lv_has ls 5 [(0, .ref o), (1, .int x1), (4, .int x4)] → wp_X9_read_L358 D post o f x1 x4 M → W p l e rm_X9_read s m args below meth c H locs cells slots (vx_MQ below (zQ D zI post) (zX D (fun _ _ => False)) args s 0 0 (zA D)) (F0 m 358 ls []) := by
  have hC := hG.1
  have hx := hC.x
  have hb := hC.b
  have hown := hC.o
  have hts := hC.ts
  have hlt := hG.2.2.2.2.2
  intro f
  induction f with
  | zero =>
    intro H locs cells slots ls x1 x4 M hk hn hZ hl hw
    exact absurd hw (fun h => h)
  | succ f ih =>
    intro H locs cells slots ls x1 x4 M hk hn hZ hl hw
    refine lv_iload hx hb dX9_read_358 (lv_at hl 2 rfl) ?_
    refine lv_bipush (v := 80) hx hb dX9_read_360 (by decide) ?_
    refine lv_icmp_ge (tgt := 409) hx hb dX9_read_362 (by decide) (fun c30 => ?_) (fun c30 => ?_)
    · replace hw := hw.1 c30
      refine lv_aload_n hx hb dX9_read_409 rfl (lv_at hl 0 rfl) ?_
      obtain ⟨fs0, g19, hM0, hx0, hw⟩ := hw
      refine z_get hC hZ hM0 zc8 25 (by decide) q1745 (fun _ h9 => h9) hx0 dX9_read_410 ?_
      exact z_iret hG hZ hk hn hw dX9_read_413
    · replace hw := hw.2 c30
      refine lv_aload_n hx hb dX9_read_365 rfl (lv_at hl 0 rfl) ?_
      obtain ⟨fs0, g20, hM0, hx0, hw⟩ := hw
      refine z_get hC hZ hM0 zc8 20 (by decide) q1740 (fun _ h9 => h9) hx0 dX9_read_366 ?_
      refine lv_bipush (v := 80) hx hb dX9_read_369 (by decide) ?_
      refine lv_iload_n hx hb dX9_read_371 rfl (lv_at hl 1 rfl) ?_
      refine lv_imul hx hb dX9_read_372 ?_
      refine lv_iload hx hb dX9_read_373 (lv_at hl 2 rfl) ?_
      refine lv_iadd hx hb dX9_read_375 ?_
      refine lv_aload_n hx hb dX9_read_376 rfl (lv_at hl 0 rfl) ?_
      obtain ⟨fs0, g21, hM0, hx0, hw⟩ := hw
      refine z_get hC hZ hM0 zc8 34 (by decide) q1754 (fun _ h9 => h9) hx0 dX9_read_377 ?_
      refine lv_iload hx hb dX9_read_380 (lv_at hl 2 rfl) ?_
      obtain ⟨b22, hr0, hw⟩ := hw
      subst hr0
      obtain ⟨n0, f0, hM0, hi0, hw⟩ := hw
      refine z_iald hC hZ hM0 hi0 dX9_read_382 ?_
      generalize f0 _ = v23 at hw ⊢
      obtain ⟨b24, hr0, hw⟩ := hw
      subst hr0
      obtain ⟨n0, f0, hM0, hb0, hi0, hw⟩ := hw
      refine z_iast hC hZ hM0 hb0 hi0 dX9_read_383 (fun H locs hZ => ?_)
      generalize zu M _ _ = M at hw hZ
      refine lv_aload_n hx hb dX9_read_384 rfl (lv_at hl 0 rfl) ?_
      obtain ⟨fs0, g25, hM0, hx0, hw⟩ := hw
      refine z_get hC hZ hM0 zc8 21 (by decide) q1741 (fun _ h9 => h9) hx0 dX9_read_385 ?_
      refine lv_bipush (v := 80) hx hb dX9_read_388 (by decide) ?_
      refine lv_iload_n hx hb dX9_read_390 rfl (lv_at hl 1 rfl) ?_
      refine lv_imul hx hb dX9_read_391 ?_
      refine lv_iload hx hb dX9_read_392 (lv_at hl 2 rfl) ?_
      refine lv_iadd hx hb dX9_read_394 ?_
      refine lv_aload_n hx hb dX9_read_395 rfl (lv_at hl 0 rfl) ?_
      obtain ⟨fs0, g26, hM0, hx0, hw⟩ := hw
      refine z_get hC hZ hM0 zc8 35 (by decide) q1755 (fun _ h9 => h9) hx0 dX9_read_396 ?_
      refine lv_iload hx hb dX9_read_399 (lv_at hl 2 rfl) ?_
      obtain ⟨b27, hr0, hw⟩ := hw
      subst hr0
      obtain ⟨n0, f0, hM0, hi0, hw⟩ := hw
      refine z_iald hC hZ hM0 hi0 dX9_read_401 ?_
      generalize f0 _ = v28 at hw ⊢
      obtain ⟨b29, hr0, hw⟩ := hw
      subst hr0
      obtain ⟨n0, f0, hM0, hb0, hi0, hw⟩ := hw
      refine z_iast hC hZ hM0 hb0 hi0 dX9_read_402 (fun H locs hZ => ?_)
      generalize zu M _ _ = M at hw hZ
      refine lv_iinc (v := (x4 + 1)) (lv' := [(4, .int (x4 + 1)), (0, .ref o), (1, .int x1)]) hx hb dX9_read_403 hl (k := 2) rfl rfl (by decide) rfl (fun ls hl1 => ?_)
      replace hl := hl1
      clear hl1
      refine lv_goto (tgt := 358) hx hb dX9_read_406 (by decide) ?_
      exact ih _ _ _ hk hn hZ (lv_sub hl [1, 2, 0] rfl) hw
def wp_X9_read_L247 (D : zD) (post : Int32 → zM → Prop) (o : Nat) : Nat → Int32 → Int32 → zM → Prop
  | 0 => fun _ _ _ => False
  | f + 1 => fun x1 x4 M =>
    (((8 : Int32) ≤ x4 → (∃ f, wp_X9_read_L358 D post o f x1 (0 : Int32) M)) ∧ (¬ (8 : Int32) ≤ x4 → (zgR M o 8 16 fun g31 => (zgR M o 8 30 fun g32 => ((zd g32 fun b33 => zaI M b33 0 x4 fun v34 => ((zd g31 fun b35 => zsI D M b35 (((8 : Int32) * x1) + x4) v34 fun M => (zgR M o 8 17 fun g36 => (zgR M o 8 31 fun g37 => ((zd g37 fun b38 => zaI M b38 0 x4 fun v39 => ((zd g36 fun b40 => zsI D M b40 (((8 : Int32) * x1) + x4) v39 fun M => (zgR M o 8 18 fun g41 => (zgR M o 8 32 fun g42 => ((zd g42 fun b43 => zaI M b43 0 x4 fun v44 => ((zd g41 fun b45 => zsI D M b45 (((8 : Int32) * x1) + x4) v44 fun M => (zgR M o 8 19 fun g46 => (zgR M o 8 33 fun g47 => ((zd g47 fun b48 => zaI M b48 0 x4 fun v49 => ((zd g46 fun b50 => zsI D M b50 (((8 : Int32) * x1) + x4) v49 fun M => (zgR M o 8 22 fun g51 => (zgR M o 8 36 fun g52 => ((zd g52 fun b53 => zaI M b53 0 x4 fun v54 => ((zd g51 fun b55 => zsI D M b55 (((8 : Int32) * x1) + x4) v54 fun M => wp_X9_read_L247 D post o f x1 (x4 + 1) M))))))))))))))))))))))))))))))))
set_option maxHeartbeats 4000000 in
set_option maxRecDepth 100000 in
theorem wk_X9_read_L247 {p : Program} {l : Launch} {e : Env} {s : State} {m : MethodId} {args : Array Value} {below : List Frame} {meth : Method} {c : Code} {D : zD} {post : Int32 → zM → Prop} {o : Nat} (hG : zGx p l s m args meth c cX9_read 5 "PluralBranchesModel" D (some .int) "read" []) : ∀ (f : Nat), ∀ {H : Heap} {locs : List Loc} {cells slots : Nat} {ls : Array Slot} (x1 : Int32) (x4 : Int32) (M : zM), cells ≤ 0 → slots ≤ 0 → zS D M H locs → lv_has ls 5 [(0, .ref o), (1, .int x1), (4, .int x4)] → wp_X9_read_L247 D post o f x1 x4 M → W p l e rm_X9_read s m args below meth c H locs cells slots (vx_MQ below (zQ D zI post) (zX D (fun _ _ => False)) args s 0 0 (zA D)) (F0 m 247 ls []) := by
  have hC := hG.1
  have hx := hC.x
  have hb := hC.b
  have hown := hC.o
  have hts := hC.ts
  have hlt := hG.2.2.2.2.2
  intro f
  induction f with
  | zero =>
    intro H locs cells slots ls x1 x4 M hk hn hZ hl hw
    exact absurd hw (fun h => h)
  | succ f ih =>
    intro H locs cells slots ls x1 x4 M hk hn hZ hl hw
    refine lv_iload hx hb dX9_read_247 (lv_at hl 2 rfl) ?_
    refine lv_bipush (v := 8) hx hb dX9_read_249 (by decide) ?_
    refine lv_icmp_ge (tgt := 355) hx hb dX9_read_251 (by decide) (fun c82 => ?_) (fun c82 => ?_)
    · replace hw := hw.1 c82
      refine lv_iconst (v := 0) hx hb dX9_read_355 (by decide) ?_
      refine lv_istore (i := 4) (lv' := [(4, .int (0 : Int32)), (0, .ref o), (1, .int x1)]) hx hb dX9_read_356 hl (by decide) rfl (fun ls hl1 => ?_)
      replace hl := hl1
      clear hl1
      obtain ⟨f1, hw⟩ := hw
      exact wk_X9_read_L358 hG f1 _ _ _ hk hn hZ (lv_sub hl [1, 2, 0] rfl) hw
    · replace hw := hw.2 c82
      refine lv_aload_n hx hb dX9_read_254 rfl (lv_at hl 0 rfl) ?_
      obtain ⟨fs0, g57, hM0, hx0, hw⟩ := hw
      refine z_get hC hZ hM0 zc8 16 (by decide) q1736 (fun _ h9 => h9) hx0 dX9_read_255 ?_
      refine lv_bipush (v := 8) hx hb dX9_read_258 (by decide) ?_
      refine lv_iload_n hx hb dX9_read_260 rfl (lv_at hl 1 rfl) ?_
      refine lv_imul hx hb dX9_read_261 ?_
      refine lv_iload hx hb dX9_read_262 (lv_at hl 2 rfl) ?_
      refine lv_iadd hx hb dX9_read_264 ?_
      refine lv_aload_n hx hb dX9_read_265 rfl (lv_at hl 0 rfl) ?_
      obtain ⟨fs0, g58, hM0, hx0, hw⟩ := hw
      refine z_get hC hZ hM0 zc8 30 (by decide) q1750 (fun _ h9 => h9) hx0 dX9_read_266 ?_
      refine lv_iload hx hb dX9_read_269 (lv_at hl 2 rfl) ?_
      obtain ⟨b59, hr0, hw⟩ := hw
      subst hr0
      obtain ⟨n0, f0, hM0, hi0, hw⟩ := hw
      refine z_iald hC hZ hM0 hi0 dX9_read_271 ?_
      generalize f0 _ = v60 at hw ⊢
      obtain ⟨b61, hr0, hw⟩ := hw
      subst hr0
      obtain ⟨n0, f0, hM0, hb0, hi0, hw⟩ := hw
      refine z_iast hC hZ hM0 hb0 hi0 dX9_read_272 (fun H locs hZ => ?_)
      generalize zu M _ _ = M at hw hZ
      refine lv_aload_n hx hb dX9_read_273 rfl (lv_at hl 0 rfl) ?_
      obtain ⟨fs0, g62, hM0, hx0, hw⟩ := hw
      refine z_get hC hZ hM0 zc8 17 (by decide) q1737 (fun _ h9 => h9) hx0 dX9_read_274 ?_
      refine lv_bipush (v := 8) hx hb dX9_read_277 (by decide) ?_
      refine lv_iload_n hx hb dX9_read_279 rfl (lv_at hl 1 rfl) ?_
      refine lv_imul hx hb dX9_read_280 ?_
      refine lv_iload hx hb dX9_read_281 (lv_at hl 2 rfl) ?_
      refine lv_iadd hx hb dX9_read_283 ?_
      refine lv_aload_n hx hb dX9_read_284 rfl (lv_at hl 0 rfl) ?_
      obtain ⟨fs0, g63, hM0, hx0, hw⟩ := hw
      refine z_get hC hZ hM0 zc8 31 (by decide) q1751 (fun _ h9 => h9) hx0 dX9_read_285 ?_
      refine lv_iload hx hb dX9_read_288 (lv_at hl 2 rfl) ?_
      obtain ⟨b64, hr0, hw⟩ := hw
      subst hr0
      obtain ⟨n0, f0, hM0, hi0, hw⟩ := hw
      refine z_iald hC hZ hM0 hi0 dX9_read_290 ?_
      generalize f0 _ = v65 at hw ⊢
      obtain ⟨b66, hr0, hw⟩ := hw
      subst hr0
      obtain ⟨n0, f0, hM0, hb0, hi0, hw⟩ := hw
      refine z_iast hC hZ hM0 hb0 hi0 dX9_read_291 (fun H locs hZ => ?_)
      generalize zu M _ _ = M at hw hZ
      refine lv_aload_n hx hb dX9_read_292 rfl (lv_at hl 0 rfl) ?_
      obtain ⟨fs0, g67, hM0, hx0, hw⟩ := hw
      refine z_get hC hZ hM0 zc8 18 (by decide) q1738 (fun _ h9 => h9) hx0 dX9_read_293 ?_
      refine lv_bipush (v := 8) hx hb dX9_read_296 (by decide) ?_
      refine lv_iload_n hx hb dX9_read_298 rfl (lv_at hl 1 rfl) ?_
      refine lv_imul hx hb dX9_read_299 ?_
      refine lv_iload hx hb dX9_read_300 (lv_at hl 2 rfl) ?_
      refine lv_iadd hx hb dX9_read_302 ?_
      refine lv_aload_n hx hb dX9_read_303 rfl (lv_at hl 0 rfl) ?_
      obtain ⟨fs0, g68, hM0, hx0, hw⟩ := hw
      refine z_get hC hZ hM0 zc8 32 (by decide) q1752 (fun _ h9 => h9) hx0 dX9_read_304 ?_
      refine lv_iload hx hb dX9_read_307 (lv_at hl 2 rfl) ?_
      obtain ⟨b69, hr0, hw⟩ := hw
      subst hr0
      obtain ⟨n0, f0, hM0, hi0, hw⟩ := hw
      refine z_iald hC hZ hM0 hi0 dX9_read_309 ?_
      generalize f0 _ = v70 at hw ⊢
      obtain ⟨b71, hr0, hw⟩ := hw
      subst hr0
      obtain ⟨n0, f0, hM0, hb0, hi0, hw⟩ := hw
      refine z_iast hC hZ hM0 hb0 hi0 dX9_read_310 (fun H locs hZ => ?_)
      generalize zu M _ _ = M at hw hZ
      refine lv_aload_n hx hb dX9_read_311 rfl (lv_at hl 0 rfl) ?_
      obtain ⟨fs0, g72, hM0, hx0, hw⟩ := hw
      refine z_get hC hZ hM0 zc8 19 (by decide) q1739 (fun _ h9 => h9) hx0 dX9_read_312 ?_
      refine lv_bipush (v := 8) hx hb dX9_read_315 (by decide) ?_
      refine lv_iload_n hx hb dX9_read_317 rfl (lv_at hl 1 rfl) ?_
      refine lv_imul hx hb dX9_read_318 ?_
      refine lv_iload hx hb dX9_read_319 (lv_at hl 2 rfl) ?_
      refine lv_iadd hx hb dX9_read_321 ?_
      refine lv_aload_n hx hb dX9_read_322 rfl (lv_at hl 0 rfl) ?_
      obtain ⟨fs0, g73, hM0, hx0, hw⟩ := hw
      refine z_get hC hZ hM0 zc8 33 (by decide) q1753 (fun _ h9 => h9) hx0 dX9_read_323 ?_
      refine lv_iload hx hb dX9_read_326 (lv_at hl 2 rfl) ?_
      obtain ⟨b74, hr0, hw⟩ := hw
      subst hr0
      obtain ⟨n0, f0, hM0, hi0, hw⟩ := hw
      refine z_iald hC hZ hM0 hi0 dX9_read_328 ?_
      generalize f0 _ = v75 at hw ⊢
      obtain ⟨b76, hr0, hw⟩ := hw
      subst hr0
      obtain ⟨n0, f0, hM0, hb0, hi0, hw⟩ := hw
      refine z_iast hC hZ hM0 hb0 hi0 dX9_read_329 (fun H locs hZ => ?_)
      generalize zu M _ _ = M at hw hZ
      refine lv_aload_n hx hb dX9_read_330 rfl (lv_at hl 0 rfl) ?_
      obtain ⟨fs0, g77, hM0, hx0, hw⟩ := hw
      refine z_get hC hZ hM0 zc8 22 (by decide) q1742 (fun _ h9 => h9) hx0 dX9_read_331 ?_
      refine lv_bipush (v := 8) hx hb dX9_read_334 (by decide) ?_
      refine lv_iload_n hx hb dX9_read_336 rfl (lv_at hl 1 rfl) ?_
      refine lv_imul hx hb dX9_read_337 ?_
      refine lv_iload hx hb dX9_read_338 (lv_at hl 2 rfl) ?_
      refine lv_iadd hx hb dX9_read_340 ?_
      refine lv_aload_n hx hb dX9_read_341 rfl (lv_at hl 0 rfl) ?_
      obtain ⟨fs0, g78, hM0, hx0, hw⟩ := hw
      refine z_get hC hZ hM0 zc8 36 (by decide) q1756 (fun _ h9 => h9) hx0 dX9_read_342 ?_
      refine lv_iload hx hb dX9_read_345 (lv_at hl 2 rfl) ?_
      obtain ⟨b79, hr0, hw⟩ := hw
      subst hr0
      obtain ⟨n0, f0, hM0, hi0, hw⟩ := hw
      refine z_iald hC hZ hM0 hi0 dX9_read_347 ?_
      generalize f0 _ = v80 at hw ⊢
      obtain ⟨b81, hr0, hw⟩ := hw
      subst hr0
      obtain ⟨n0, f0, hM0, hb0, hi0, hw⟩ := hw
      refine z_iast hC hZ hM0 hb0 hi0 dX9_read_348 (fun H locs hZ => ?_)
      generalize zu M _ _ = M at hw hZ
      refine lv_iinc (v := (x4 + 1)) (lv' := [(4, .int (x4 + 1)), (0, .ref o), (1, .int x1)]) hx hb dX9_read_349 hl (k := 2) rfl rfl (by decide) rfl (fun ls hl1 => ?_)
      replace hl := hl1
      clear hl1
      refine lv_goto (tgt := 247) hx hb dX9_read_352 (by decide) ?_
      exact ih _ _ _ hk hn hZ (lv_sub hl [1, 2, 0] rfl) hw
def wp_X9_read_L214 (D : zD) (post : Int32 → zM → Prop) (o : Nat) : Nat → Int32 → Int32 → zM → Prop
  | 0 => fun _ _ _ => False
  | f + 1 => fun x1 x4 M =>
    (((5 : Int32) ≤ x4 → (∃ f, wp_X9_read_L247 D post o f x1 (0 : Int32) M)) ∧ (¬ (5 : Int32) ≤ x4 → (zgR M o 8 15 fun g83 => (zgR M o 8 29 fun g84 => ((zd g84 fun b85 => zaI M b85 0 x4 fun v86 => ((zd g83 fun b87 => zsI D M b87 (((5 : Int32) * x1) + x4) v86 fun M => wp_X9_read_L214 D post o f x1 (x4 + 1) M))))))))
set_option maxHeartbeats 4000000 in
set_option maxRecDepth 100000 in
theorem wk_X9_read_L214 {p : Program} {l : Launch} {e : Env} {s : State} {m : MethodId} {args : Array Value} {below : List Frame} {meth : Method} {c : Code} {D : zD} {post : Int32 → zM → Prop} {o : Nat} (hG : zGx p l s m args meth c cX9_read 5 "PluralBranchesModel" D (some .int) "read" []) : ∀ (f : Nat), ∀ {H : Heap} {locs : List Loc} {cells slots : Nat} {ls : Array Slot} (x1 : Int32) (x4 : Int32) (M : zM), cells ≤ 0 → slots ≤ 0 → zS D M H locs → lv_has ls 5 [(0, .ref o), (1, .int x1), (4, .int x4)] → wp_X9_read_L214 D post o f x1 x4 M → W p l e rm_X9_read s m args below meth c H locs cells slots (vx_MQ below (zQ D zI post) (zX D (fun _ _ => False)) args s 0 0 (zA D)) (F0 m 214 ls []) := by
  have hC := hG.1
  have hx := hC.x
  have hb := hC.b
  have hown := hC.o
  have hts := hC.ts
  have hlt := hG.2.2.2.2.2
  intro f
  induction f with
  | zero =>
    intro H locs cells slots ls x1 x4 M hk hn hZ hl hw
    exact absurd hw (fun h => h)
  | succ f ih =>
    intro H locs cells slots ls x1 x4 M hk hn hZ hl hw
    refine lv_iload hx hb dX9_read_214 (lv_at hl 2 rfl) ?_
    refine lv_iconst (v := 5) hx hb dX9_read_216 (by decide) ?_
    refine lv_icmp_ge (tgt := 244) hx hb dX9_read_217 (by decide) (fun c94 => ?_) (fun c94 => ?_)
    · replace hw := hw.1 c94
      refine lv_iconst (v := 0) hx hb dX9_read_244 (by decide) ?_
      refine lv_istore (i := 4) (lv' := [(4, .int (0 : Int32)), (0, .ref o), (1, .int x1)]) hx hb dX9_read_245 hl (by decide) rfl (fun ls hl1 => ?_)
      replace hl := hl1
      clear hl1
      obtain ⟨f1, hw⟩ := hw
      exact wk_X9_read_L247 hG f1 _ _ _ hk hn hZ (lv_sub hl [1, 2, 0] rfl) hw
    · replace hw := hw.2 c94
      refine lv_aload_n hx hb dX9_read_220 rfl (lv_at hl 0 rfl) ?_
      obtain ⟨fs0, g89, hM0, hx0, hw⟩ := hw
      refine z_get hC hZ hM0 zc8 15 (by decide) q1735 (fun _ h9 => h9) hx0 dX9_read_221 ?_
      refine lv_iconst (v := 5) hx hb dX9_read_224 (by decide) ?_
      refine lv_iload_n hx hb dX9_read_225 rfl (lv_at hl 1 rfl) ?_
      refine lv_imul hx hb dX9_read_226 ?_
      refine lv_iload hx hb dX9_read_227 (lv_at hl 2 rfl) ?_
      refine lv_iadd hx hb dX9_read_229 ?_
      refine lv_aload_n hx hb dX9_read_230 rfl (lv_at hl 0 rfl) ?_
      obtain ⟨fs0, g90, hM0, hx0, hw⟩ := hw
      refine z_get hC hZ hM0 zc8 29 (by decide) q1749 (fun _ h9 => h9) hx0 dX9_read_231 ?_
      refine lv_iload hx hb dX9_read_234 (lv_at hl 2 rfl) ?_
      obtain ⟨b91, hr0, hw⟩ := hw
      subst hr0
      obtain ⟨n0, f0, hM0, hi0, hw⟩ := hw
      refine z_iald hC hZ hM0 hi0 dX9_read_236 ?_
      generalize f0 _ = v92 at hw ⊢
      obtain ⟨b93, hr0, hw⟩ := hw
      subst hr0
      obtain ⟨n0, f0, hM0, hb0, hi0, hw⟩ := hw
      refine z_iast hC hZ hM0 hb0 hi0 dX9_read_237 (fun H locs hZ => ?_)
      generalize zu M _ _ = M at hw hZ
      refine lv_iinc (v := (x4 + 1)) (lv' := [(4, .int (x4 + 1)), (0, .ref o), (1, .int x1)]) hx hb dX9_read_238 hl (k := 2) rfl rfl (by decide) rfl (fun ls hl1 => ?_)
      replace hl := hl1
      clear hl1
      refine lv_goto (tgt := 214) hx hb dX9_read_241 (by decide) ?_
      exact ih _ _ _ hk hn hZ (lv_sub hl [1, 2, 0] rfl) hw
def wp_X9_read_L140 (D : zD) (post : Int32 → zM → Prop) (o : Nat) : Nat → Int32 → Int32 → Int32 → zM → Prop
  | 0 => fun _ _ _ _ => False
  | f + 1 => fun x1 x3 x4 M =>
    ((x3 ≤ x4 → (zgR M o 8 11 fun g95 => (zgI M o 8 24 fun g96 => ((zd g95 fun b97 => zsI D M b97 x1 g96 fun M => (zgR M o 8 12 fun g98 => (zgI M o 8 25 fun g99 => ((zd g98 fun b100 => zsI D M b100 x1 g99 fun M => (zgR M o 8 13 fun g101 => (zgI M o 8 26 fun g102 => ((zd g101 fun b103 => zsI D M b103 x1 g102 fun M => (zgR M o 8 14 fun g104 => (zgI M o 8 27 fun g105 => ((zd g104 fun b106 => zsI D M b106 x1 g105 fun M => (∃ f, wp_X9_read_L214 D post o f x1 (0 : Int32) M)))))))))))))))))) ∧ (¬ x3 ≤ x4 → (zgR M o 8 10 fun g107 => (zgR M o 8 7 fun g108 => ((zd g108 fun b109 => zaI M b109 0 x4 fun v110 => ((zd g107 fun b111 => zsI D M b111 (((120 : Int32) * x1) + x4) v110 fun M => wp_X9_read_L140 D post o f x1 x3 (x4 + 1) M))))))))
set_option maxHeartbeats 4000000 in
set_option maxRecDepth 100000 in
theorem wk_X9_read_L140 {p : Program} {l : Launch} {e : Env} {s : State} {m : MethodId} {args : Array Value} {below : List Frame} {meth : Method} {c : Code} {D : zD} {post : Int32 → zM → Prop} {o : Nat} (hG : zGx p l s m args meth c cX9_read 5 "PluralBranchesModel" D (some .int) "read" []) : ∀ (f : Nat), ∀ {H : Heap} {locs : List Loc} {cells slots : Nat} {ls : Array Slot} (x1 : Int32) (x3 : Int32) (x4 : Int32) (M : zM), cells ≤ 0 → slots ≤ 0 → zS D M H locs → lv_has ls 5 [(0, .ref o), (1, .int x1), (3, .int x3), (4, .int x4)] → wp_X9_read_L140 D post o f x1 x3 x4 M → W p l e rm_X9_read s m args below meth c H locs cells slots (vx_MQ below (zQ D zI post) (zX D (fun _ _ => False)) args s 0 0 (zA D)) (F0 m 140 ls []) := by
  have hC := hG.1
  have hx := hC.x
  have hb := hC.b
  have hown := hC.o
  have hts := hC.ts
  have hlt := hG.2.2.2.2.2
  intro f
  induction f with
  | zero =>
    intro H locs cells slots ls x1 x3 x4 M hk hn hZ hl hw
    exact absurd hw (fun h => h)
  | succ f ih =>
    intro H locs cells slots ls x1 x3 x4 M hk hn hZ hl hw
    refine lv_iload hx hb dX9_read_140 (lv_at hl 3 rfl) ?_
    refine lv_iload_n hx hb dX9_read_142 rfl (lv_at hl 2 rfl) ?_
    refine lv_icmp_ge (tgt := 171) hx hb dX9_read_143 (by decide) (fun c130 => ?_) (fun c130 => ?_)
    · replace hw := hw.1 c130
      refine lv_aload_n hx hb dX9_read_171 rfl (lv_at hl 0 rfl) ?_
      obtain ⟨fs0, g113, hM0, hx0, hw⟩ := hw
      refine z_get hC hZ hM0 zc8 11 (by decide) q1731 (fun _ h9 => h9) hx0 dX9_read_172 ?_
      refine lv_iload_n hx hb dX9_read_175 rfl (lv_at hl 1 rfl) ?_
      refine lv_aload_n hx hb dX9_read_176 rfl (lv_at hl 0 rfl) ?_
      obtain ⟨fs0, g114, hM0, hx0, hw⟩ := hw
      refine z_get hC hZ hM0 zc8 24 (by decide) q1744 (fun _ h9 => h9) hx0 dX9_read_177 ?_
      obtain ⟨b115, hr0, hw⟩ := hw
      subst hr0
      obtain ⟨n0, f0, hM0, hb0, hi0, hw⟩ := hw
      refine z_iast hC hZ hM0 hb0 hi0 dX9_read_180 (fun H locs hZ => ?_)
      generalize zu M _ _ = M at hw hZ
      refine lv_aload_n hx hb dX9_read_181 rfl (lv_at hl 0 rfl) ?_
      obtain ⟨fs0, g116, hM0, hx0, hw⟩ := hw
      refine z_get hC hZ hM0 zc8 12 (by decide) q1732 (fun _ h9 => h9) hx0 dX9_read_182 ?_
      refine lv_iload_n hx hb dX9_read_185 rfl (lv_at hl 1 rfl) ?_
      refine lv_aload_n hx hb dX9_read_186 rfl (lv_at hl 0 rfl) ?_
      obtain ⟨fs0, g117, hM0, hx0, hw⟩ := hw
      refine z_get hC hZ hM0 zc8 25 (by decide) q1745 (fun _ h9 => h9) hx0 dX9_read_187 ?_
      obtain ⟨b118, hr0, hw⟩ := hw
      subst hr0
      obtain ⟨n0, f0, hM0, hb0, hi0, hw⟩ := hw
      refine z_iast hC hZ hM0 hb0 hi0 dX9_read_190 (fun H locs hZ => ?_)
      generalize zu M _ _ = M at hw hZ
      refine lv_aload_n hx hb dX9_read_191 rfl (lv_at hl 0 rfl) ?_
      obtain ⟨fs0, g119, hM0, hx0, hw⟩ := hw
      refine z_get hC hZ hM0 zc8 13 (by decide) q1733 (fun _ h9 => h9) hx0 dX9_read_192 ?_
      refine lv_iload_n hx hb dX9_read_195 rfl (lv_at hl 1 rfl) ?_
      refine lv_aload_n hx hb dX9_read_196 rfl (lv_at hl 0 rfl) ?_
      obtain ⟨fs0, g120, hM0, hx0, hw⟩ := hw
      refine z_get hC hZ hM0 zc8 26 (by decide) q1746 (fun _ h9 => h9) hx0 dX9_read_197 ?_
      obtain ⟨b121, hr0, hw⟩ := hw
      subst hr0
      obtain ⟨n0, f0, hM0, hb0, hi0, hw⟩ := hw
      refine z_iast hC hZ hM0 hb0 hi0 dX9_read_200 (fun H locs hZ => ?_)
      generalize zu M _ _ = M at hw hZ
      refine lv_aload_n hx hb dX9_read_201 rfl (lv_at hl 0 rfl) ?_
      obtain ⟨fs0, g122, hM0, hx0, hw⟩ := hw
      refine z_get hC hZ hM0 zc8 14 (by decide) q1734 (fun _ h9 => h9) hx0 dX9_read_202 ?_
      refine lv_iload_n hx hb dX9_read_205 rfl (lv_at hl 1 rfl) ?_
      refine lv_aload_n hx hb dX9_read_206 rfl (lv_at hl 0 rfl) ?_
      obtain ⟨fs0, g123, hM0, hx0, hw⟩ := hw
      refine z_get hC hZ hM0 zc8 27 (by decide) q1747 (fun _ h9 => h9) hx0 dX9_read_207 ?_
      obtain ⟨b124, hr0, hw⟩ := hw
      subst hr0
      obtain ⟨n0, f0, hM0, hb0, hi0, hw⟩ := hw
      refine z_iast hC hZ hM0 hb0 hi0 dX9_read_210 (fun H locs hZ => ?_)
      generalize zu M _ _ = M at hw hZ
      refine lv_iconst (v := 0) hx hb dX9_read_211 (by decide) ?_
      refine lv_istore (i := 4) (lv' := [(4, .int (0 : Int32)), (0, .ref o), (1, .int x1), (3, .int x3)]) hx hb dX9_read_212 hl (by decide) rfl (fun ls hl1 => ?_)
      replace hl := hl1
      clear hl1
      obtain ⟨f1, hw⟩ := hw
      exact wk_X9_read_L214 hG f1 _ _ _ hk hn hZ (lv_sub hl [1, 2, 0] rfl) hw
    · replace hw := hw.2 c130
      refine lv_aload_n hx hb dX9_read_146 rfl (lv_at hl 0 rfl) ?_
      obtain ⟨fs0, g125, hM0, hx0, hw⟩ := hw
      refine z_get hC hZ hM0 zc8 10 (by decide) q1730 (fun _ h9 => h9) hx0 dX9_read_147 ?_
      refine lv_bipush (v := 120) hx hb dX9_read_150 (by decide) ?_
      refine lv_iload_n hx hb dX9_read_152 rfl (lv_at hl 1 rfl) ?_
      refine lv_imul hx hb dX9_read_153 ?_
      refine lv_iload hx hb dX9_read_154 (lv_at hl 3 rfl) ?_
      refine lv_iadd hx hb dX9_read_156 ?_
      refine lv_aload_n hx hb dX9_read_157 rfl (lv_at hl 0 rfl) ?_
      obtain ⟨fs0, g126, hM0, hx0, hw⟩ := hw
      refine z_get hC hZ hM0 zc8 7 (by decide) q1727 (fun _ h9 => h9) hx0 dX9_read_158 ?_
      refine lv_iload hx hb dX9_read_161 (lv_at hl 3 rfl) ?_
      obtain ⟨b127, hr0, hw⟩ := hw
      subst hr0
      obtain ⟨n0, f0, hM0, hi0, hw⟩ := hw
      refine z_iald hC hZ hM0 hi0 dX9_read_163 ?_
      generalize f0 _ = v128 at hw ⊢
      obtain ⟨b129, hr0, hw⟩ := hw
      subst hr0
      obtain ⟨n0, f0, hM0, hb0, hi0, hw⟩ := hw
      refine z_iast hC hZ hM0 hb0 hi0 dX9_read_164 (fun H locs hZ => ?_)
      generalize zu M _ _ = M at hw hZ
      refine lv_iinc (v := (x4 + 1)) (lv' := [(4, .int (x4 + 1)), (0, .ref o), (1, .int x1), (3, .int x3)]) hx hb dX9_read_165 hl (k := 3) rfl rfl (by decide) rfl (fun ls hl1 => ?_)
      replace hl := hl1
      clear hl1
      refine lv_goto (tgt := 140) hx hb dX9_read_168 (by decide) ?_
      exact ih _ _ _ _ hk hn hZ (lv_sub hl [1, 2, 3, 0] rfl) hw
def wp_X9_read_L84 (D : zD) (post : Int32 → zM → Prop) (o : Nat) (x1 : Int32) (y0 : Int32) (M : zM) : Prop :=
    (zgI M o 8 8 fun g131 => (zp D M o 8 8 (.int (0 : Int32)) fun M => ((y0 = 0 → wp_X9_read_L106 D post o y0 M) ∧ (¬ y0 = 0 → (zgI M o 8 28 fun g132 => ((g132 < 0 → (zgR M o 8 9 fun g133 => ((zd g133 fun b134 => zsI D M b134 x1 g131 fun M => (∃ f, wp_X9_read_L140 D post o f x1 g131 (0 : Int32) M))))) ∧ (¬ g132 < 0 → wp_X9_read_L106 D post o y0 M)))))))
set_option maxHeartbeats 4000000 in
set_option maxRecDepth 100000 in
theorem wk_X9_read_L84 {p : Program} {l : Launch} {e : Env} {s : State} {m : MethodId} {args : Array Value} {below : List Frame} {meth : Method} {c : Code} {D : zD} {post : Int32 → zM → Prop} {o : Nat} (hG : zGx p l s m args meth c cX9_read 5 "PluralBranchesModel" D (some .int) "read" []) : ∀ {H : Heap} {locs : List Loc} {cells slots : Nat} {ls : Array Slot} (x1 : Int32) (y0 : Int32) (M : zM), cells ≤ 0 → slots ≤ 0 → zS D M H locs → lv_has ls 5 [(0, .ref o), (1, .int x1)] → wp_X9_read_L84 D post o x1 y0 M → W p l e rm_X9_read s m args below meth c H locs cells slots (vx_MQ below (zQ D zI post) (zX D (fun _ _ => False)) args s 0 0 (zA D)) (F0 m 84 ls [.int y0]) := by
  have hC := hG.1
  have hx := hC.x
  have hb := hC.b
  have hown := hC.o
  have hts := hC.ts
  have hlt := hG.2.2.2.2.2
  intro H locs cells slots ls x1 y0 M hk hn hZ hl hw
  refine lv_istore_n (i := 2) (lv' := [(2, .int y0), (0, .ref o), (1, .int x1)]) hx hb dX9_read_84 rfl hl (by decide) rfl (fun ls hl1 => ?_)
  replace hl := hl1
  clear hl1
  refine lv_aload_n hx hb dX9_read_85 rfl (lv_at hl 1 rfl) ?_
  obtain ⟨fs0, g138, hM0, hx0, hw⟩ := hw
  refine z_get hC hZ hM0 zc8 8 (by decide) q1728 (fun _ h9 => h9) hx0 dX9_read_86 ?_
  refine lv_istore_n (i := 3) (lv' := [(3, .int g138), (2, .int y0), (0, .ref o), (1, .int x1)]) hx hb dX9_read_89 rfl hl (by decide) rfl (fun ls hl1 => ?_)
  replace hl := hl1
  clear hl1
  refine lv_aload_n hx hb dX9_read_90 rfl (lv_at hl 2 rfl) ?_
  refine lv_iconst (v := 0) hx hb dX9_read_91 (by decide) ?_
  obtain ⟨fs0, hM0, hb0, hk0, hw⟩ := hw
  refine z_put hC hZ hM0 hb0 zc8 8 (by decide) q1728 (fun _ h9 => h9) (by decide) rfl rfl hk0 dX9_read_92 (fun H locs hZ => ?_)
  generalize zu M _ _ = M at hw hZ
  refine lv_iload_n hx hb dX9_read_95 rfl (lv_at hl 1 rfl) ?_
  refine lv_if_eq (tgt := 106) hx hb dX9_read_96 (by decide) (fun c143 => ?_) (fun c143 => ?_)
  · replace hw := hw.1 c143
    exact wk_X9_read_L106 hG _ _ hk hn hZ (lv_sub hl [2, 1] rfl) hw
  · replace hw := hw.2 c143
    refine lv_aload_n hx hb dX9_read_99 rfl (lv_at hl 2 rfl) ?_
    obtain ⟨fs0, g139, hM0, hx0, hw⟩ := hw
    refine z_get hC hZ hM0 zc8 28 (by decide) q1748 (fun _ h9 => h9) hx0 dX9_read_100 ?_
    refine lv_if_lt (tgt := 130) hx hb dX9_read_103 (by decide) (fun c142 => ?_) (fun c142 => ?_)
    · replace hw := hw.1 c142
      refine lv_aload_n hx hb dX9_read_130 rfl (lv_at hl 2 rfl) ?_
      obtain ⟨fs0, g140, hM0, hx0, hw⟩ := hw
      refine z_get hC hZ hM0 zc8 9 (by decide) q1729 (fun _ h9 => h9) hx0 dX9_read_131 ?_
      refine lv_iload_n hx hb dX9_read_134 rfl (lv_at hl 3 rfl) ?_
      refine lv_iload_n hx hb dX9_read_135 rfl (lv_at hl 0 rfl) ?_
      obtain ⟨b141, hr0, hw⟩ := hw
      subst hr0
      obtain ⟨n0, f0, hM0, hb0, hi0, hw⟩ := hw
      refine z_iast hC hZ hM0 hb0 hi0 dX9_read_136 (fun H locs hZ => ?_)
      generalize zu M _ _ = M at hw hZ
      refine lv_iconst (v := 0) hx hb dX9_read_137 (by decide) ?_
      refine lv_istore (i := 4) (lv' := [(4, .int (0 : Int32)), (3, .int g138), (2, .int y0), (0, .ref o), (1, .int x1)]) hx hb dX9_read_138 hl (by decide) rfl (fun ls hl1 => ?_)
      replace hl := hl1
      clear hl1
      obtain ⟨f1, hw⟩ := hw
      exact wk_X9_read_L140 hG f1 _ _ _ _ hk hn hZ (lv_sub hl [3, 4, 1, 0] rfl) hw
    · replace hw := hw.2 c142
      exact wk_X9_read_L106 hG _ _ hk hn hZ (lv_sub hl [2, 1] rfl) hw
def wp_X9_read_L83 (D : zD) (post : Int32 → zM → Prop) (o : Nat) (x1 : Int32) (M : zM) : Prop :=
    wp_X9_read_L84 D post o x1 (0 : Int32) M
set_option maxHeartbeats 4000000 in
set_option maxRecDepth 100000 in
theorem wk_X9_read_L83 {p : Program} {l : Launch} {e : Env} {s : State} {m : MethodId} {args : Array Value} {below : List Frame} {meth : Method} {c : Code} {D : zD} {post : Int32 → zM → Prop} {o : Nat} (hG : zGx p l s m args meth c cX9_read 5 "PluralBranchesModel" D (some .int) "read" []) : ∀ {H : Heap} {locs : List Loc} {cells slots : Nat} {ls : Array Slot} (x1 : Int32) (M : zM), cells ≤ 0 → slots ≤ 0 → zS D M H locs → lv_has ls 5 [(0, .ref o), (1, .int x1)] → wp_X9_read_L83 D post o x1 M → W p l e rm_X9_read s m args below meth c H locs cells slots (vx_MQ below (zQ D zI post) (zX D (fun _ _ => False)) args s 0 0 (zA D)) (F0 m 83 ls []) := by
  have hC := hG.1
  have hx := hC.x
  have hb := hC.b
  have hown := hC.o
  have hts := hC.ts
  have hlt := hG.2.2.2.2.2
  intro H locs cells slots ls x1 M hk hn hZ hl hw
  refine lv_iconst (v := 0) hx hb dX9_read_83 (by decide) ?_
  exact wk_X9_read_L84 hG _ _ _ hk hn hZ (lv_sub hl [0, 1] rfl) hw
def wp_X9_read_L41 (D : zD) (post : Int32 → zM → Prop) (o : Nat) : Nat → Int32 → Int32 → zM → Prop
  | 0 => fun _ _ _ => False
  | f + 1 => fun x1 x2 M =>
    (((5 : Int32) ≤ x2 → ((zis M o [8] ∧ wp_X9_readsMessage D 6 (fun r145 M => ((r145 = 0 → wp_X9_read_L83 D post o x1 M) ∧ (¬ r145 = 0 → (zgI M o 8 23 fun g148 => (zgI M o 8 8 fun g149 => ((¬ g148 = g149 → wp_X9_read_L83 D post o x1 M) ∧ (g148 = g149 → wp_X9_read_L84 D post o x1 (1 : Int32) M))))))) o (0 : Int32) (0 : Int32) M))) ∧ (¬ (5 : Int32) ≤ x2 → (zgR M o 8 29 fun g152 => ((zd g152 fun b153 => zsI D M b153 x2 (0 : Int32) fun M => wp_X9_read_L41 D post o f x1 (x2 + 1) M)))))
set_option maxHeartbeats 4000000 in
set_option maxRecDepth 100000 in
theorem wk_X9_read_L41 {p : Program} {l : Launch} {e : Env} {s : State} {m : MethodId} {args : Array Value} {below : List Frame} {meth : Method} {c : Code} {D : zD} {post : Int32 → zM → Prop} {o : Nat} (hG : zGx p l s m args meth c cX9_read 5 "PluralBranchesModel" D (some .int) "read" []) : ∀ (f : Nat), ∀ {H : Heap} {locs : List Loc} {cells slots : Nat} {ls : Array Slot} (x1 : Int32) (x2 : Int32) (M : zM), cells ≤ 0 → slots ≤ 0 → zS D M H locs → lv_has ls 5 [(0, .ref o), (1, .int x1), (2, .int x2)] → wp_X9_read_L41 D post o f x1 x2 M → W p l e rm_X9_read s m args below meth c H locs cells slots (vx_MQ below (zQ D zI post) (zX D (fun _ _ => False)) args s 0 0 (zA D)) (F0 m 41 ls []) := by
  have hC := hG.1
  have hx := hC.x
  have hb := hC.b
  have hown := hC.o
  have hts := hC.ts
  have hlt := hG.2.2.2.2.2
  intro f
  induction f with
  | zero =>
    intro H locs cells slots ls x1 x2 M hk hn hZ hl hw
    exact absurd hw (fun h => h)
  | succ f ih =>
    intro H locs cells slots ls x1 x2 M hk hn hZ hl hw
    refine lv_iload_n hx hb dX9_read_41 rfl (lv_at hl 2 rfl) ?_
    refine lv_iconst (v := 5) hx hb dX9_read_42 (by decide) ?_
    refine lv_icmp_ge (tgt := 59) hx hb dX9_read_43 (by decide) (fun c164 => ?_) (fun c164 => ?_)
    · replace hw := hw.1 c164
      refine lv_aload_n hx hb dX9_read_59 rfl (lv_at hl 0 rfl) ?_
      refine lv_iconst (v := 0) hx hb dX9_read_60 (by decide) ?_
      refine lv_iconst (v := 0) hx hb dX9_read_61 (by decide) ?_
      obtain ⟨⟨ci0, fs0, hci0, hM0⟩, hw⟩ := hw
      obtain rfl : ci0 = 8 := List.mem_singleton.mp hci0
      refine z_callI hZ (vx_runV (As := [.int (0 : Int32), .int (0 : Int32)]) (rest := []) hC.fix (w_X9_readsMessage hlt 6 _ _ _ _ _ hw) (cwV 2 hts (lw_V q1966 q1968 qs32 q83 q1969) rfl rfl rfl ⟨rfl, dd_X9_readsMessage⟩ ⟨(show 3 + 3 * 6 + 1 ≤ 22 by omega), (show 8 + (4 + 11) + (109 + 77 * 6) ≤ 594 by omega)⟩) (z_preV hC hZ hM0 zc8) rfl rfl hl.1 rfl (lv_room (Nat.zero_le _)) dX9_read_62 ⟨hk, hn⟩) (fun r155 M H locs hw1 hZ => ?_) (fun q M H locs ci fs E T9 N9 hw hZ hc1 hM1 hb1 => False.elim hw)
      replace hw := hw1
      clear hw1
      refine W.cs (cells' := cells) (slots' := slots) rfl rfl ?_
      refine lv_if_eq (tgt := 83) hx hb dX9_read_65 (by decide) (fun c161 => ?_) (fun c161 => ?_)
      · replace hw := hw.1 c161
        exact wk_X9_read_L83 hG _ _ hk hn hZ (lv_sub hl [0, 1] rfl) hw
      · replace hw := hw.2 c161
        refine lv_aload_n hx hb dX9_read_68 rfl (lv_at hl 0 rfl) ?_
        obtain ⟨fs0, g158, hM0, hx0, hw⟩ := hw
        refine z_get hC hZ hM0 zc8 23 (by decide) q1743 (fun _ h9 => h9) hx0 dX9_read_69 ?_
        refine lv_aload_n hx hb dX9_read_72 rfl (lv_at hl 0 rfl) ?_
        obtain ⟨fs0, g159, hM0, hx0, hw⟩ := hw
        refine z_get hC hZ hM0 zc8 8 (by decide) q1728 (fun _ h9 => h9) hx0 dX9_read_73 ?_
        refine lv_icmp_ne (tgt := 83) hx hb dX9_read_76 (by decide) (fun c160 => ?_) (fun c160 => ?_)
        · replace hw := hw.1 c160
          exact wk_X9_read_L83 hG _ _ hk hn hZ (lv_sub hl [0, 1] rfl) hw
        · replace hw := hw.2 c160
          refine lv_iconst (v := 1) hx hb dX9_read_79 (by decide) ?_
          refine lv_goto (tgt := 84) hx hb dX9_read_80 (by decide) ?_
          exact wk_X9_read_L84 hG _ _ _ hk hn hZ (lv_sub hl [0, 1] rfl) hw
    · replace hw := hw.2 c164
      refine lv_aload_n hx hb dX9_read_46 rfl (lv_at hl 0 rfl) ?_
      obtain ⟨fs0, g162, hM0, hx0, hw⟩ := hw
      refine z_get hC hZ hM0 zc8 29 (by decide) q1749 (fun _ h9 => h9) hx0 dX9_read_47 ?_
      refine lv_iload_n hx hb dX9_read_50 rfl (lv_at hl 2 rfl) ?_
      refine lv_iconst (v := 0) hx hb dX9_read_51 (by decide) ?_
      obtain ⟨b163, hr0, hw⟩ := hw
      subst hr0
      obtain ⟨n0, f0, hM0, hb0, hi0, hw⟩ := hw
      refine z_iast hC hZ hM0 hb0 hi0 dX9_read_52 (fun H locs hZ => ?_)
      generalize zu M _ _ = M at hw hZ
      refine lv_iinc (v := (x2 + 1)) (lv' := [(2, .int (x2 + 1)), (0, .ref o), (1, .int x1)]) hx hb dX9_read_53 hl (k := 2) rfl rfl (by decide) rfl (fun ls hl1 => ?_)
      replace hl := hl1
      clear hl1
      refine lv_goto (tgt := 41) hx hb dX9_read_56 (by decide) ?_
      exact ih _ _ _ hk hn hZ (lv_sub hl [1, 2, 0] rfl) hw
def wp_X9_read (D : zD) (post : Int32 → zM → Prop) (o : Nat) (a0 : Int32) (M : zM) : Prop :=
    (wp_X9_isSlot D (fun r165 M => ((¬ r165 = 0 → (zp D M o 8 23 (.int (0 : Int32)) fun M => (zp D M o 8 24 (.int (0 : Int32)) fun M => (zp D M o 8 25 (.int (0 : Int32)) fun M => (zp D M o 8 26 (.int (0 : Int32)) fun M => (zp D M o 8 27 (.int (0 : Int32)) fun M => (zp D M o 8 28 (.int (-1 : Int32)) fun M => (∃ f, wp_X9_read_L41 D post o f a0 (0 : Int32) M)))))))) ∧ (r165 = 0 → post (-1 : Int32) M))) a0 M)
set_option maxHeartbeats 4000000 in
set_option maxRecDepth 100000 in
theorem w_X9_read {l : Launch} {D : zD} {post : Int32 → zM → Prop} (hlt : l.stackTraces = false) {o : Nat} {a0 : Int32} {M : zM} (hw : wp_X9_read D post o a0 M) : zMet l D yX9_read (ws_ yX9_read cX9_read 5 (some .int)) rm_X9_read 0 0 [.ref o, .int a0] M zI post (fun _ _ => False) := by
  unfold wp_X9_read at hw
  have hlv : lv_args 0 [.ref o, .int a0] = [(0, .ref o), (1, .int a0)] := (zargs1 rfl (zargs1 rfl rfl))
  refine z_ofW hlt (by decide) (Nat.le_trans (zsl1 rfl (zsl1 rfl (Nat.le_refl 0 : (lg_sl []).length ≤ 0))) (Nat.le_of_ble_eq_true rfl)) hlv ?_
  intro p e s m args below meth c ls hG hZ hl
  have hC := hG.1
  have hx := hC.x
  have hb := hC.b
  have hown := hC.o
  have hts := hC.ts
  have hlt := hG.2.2.2.2.2
  obtain ⟨cells, hce⟩ : ∃ z : Nat, z = 0 := ⟨0, rfl⟩
  obtain ⟨slots, hsl⟩ : ∃ z : Nat, z = 0 := ⟨0, rfl⟩
  refine W.cs (cells' := cells) (slots' := slots) hce.symm hsl.symm ?_
  have hk : cells ≤ 0 := Nat.le_of_eq hce
  have hn : slots ≤ 0 := Nat.le_of_eq hsl
  clear hce hsl
  refine lv_iload_n hx hb dX9_read_0 rfl (lv_at hl 1 rfl) ?_
  refine z_callI hZ (vx_runS (As := [.int a0]) (rest := []) hC.fix (w_X9_isSlot hlt hw) (va_cwS 1 hts (lw_S q1963 q1964 q83 q1965) rfl rfl rfl dd_X9_isSlot ⟨Nat.le_of_ble_eq_true rfl, Nat.le_of_ble_eq_true rfl⟩) (z_preS hC hZ) rfl rfl hl.1 rfl (lv_room (Nat.zero_le _)) dX9_read_1 ⟨hk, hn⟩) (fun r175 M H locs hw1 hZ => ?_) (fun q M H locs ci fs E T9 N9 hw hZ hc1 hM1 hb1 => False.elim hw)
  replace hw := hw1
  clear hw1
  refine W.cs (cells' := cells) (slots' := slots) rfl rfl ?_
  refine lv_if_ne (tgt := 9) hx hb dX9_read_4 (by decide) (fun c184 => ?_) (fun c184 => ?_)
  · replace hw := hw.1 c184
    refine lv_aload_n hx hb dX9_read_9 rfl (lv_at hl 0 rfl) ?_
    refine lv_iconst (v := 0) hx hb dX9_read_10 (by decide) ?_
    obtain ⟨fs0, hM0, hb0, hk0, hw⟩ := hw
    refine z_put hC hZ hM0 hb0 zc8 23 (by decide) q1743 (fun _ h9 => h9) (by decide) rfl rfl hk0 dX9_read_11 (fun H locs hZ => ?_)
    generalize zu M _ _ = M at hw hZ
    refine lv_aload_n hx hb dX9_read_14 rfl (lv_at hl 0 rfl) ?_
    refine lv_iconst (v := 0) hx hb dX9_read_15 (by decide) ?_
    obtain ⟨fs0, hM0, hb0, hk0, hw⟩ := hw
    refine z_put hC hZ hM0 hb0 zc8 24 (by decide) q1744 (fun _ h9 => h9) (by decide) rfl rfl hk0 dX9_read_16 (fun H locs hZ => ?_)
    generalize zu M _ _ = M at hw hZ
    refine lv_aload_n hx hb dX9_read_19 rfl (lv_at hl 0 rfl) ?_
    refine lv_iconst (v := 0) hx hb dX9_read_20 (by decide) ?_
    obtain ⟨fs0, hM0, hb0, hk0, hw⟩ := hw
    refine z_put hC hZ hM0 hb0 zc8 25 (by decide) q1745 (fun _ h9 => h9) (by decide) rfl rfl hk0 dX9_read_21 (fun H locs hZ => ?_)
    generalize zu M _ _ = M at hw hZ
    refine lv_aload_n hx hb dX9_read_24 rfl (lv_at hl 0 rfl) ?_
    refine lv_iconst (v := 0) hx hb dX9_read_25 (by decide) ?_
    obtain ⟨fs0, hM0, hb0, hk0, hw⟩ := hw
    refine z_put hC hZ hM0 hb0 zc8 26 (by decide) q1746 (fun _ h9 => h9) (by decide) rfl rfl hk0 dX9_read_26 (fun H locs hZ => ?_)
    generalize zu M _ _ = M at hw hZ
    refine lv_aload_n hx hb dX9_read_29 rfl (lv_at hl 0 rfl) ?_
    refine lv_iconst (v := 0) hx hb dX9_read_30 (by decide) ?_
    obtain ⟨fs0, hM0, hb0, hk0, hw⟩ := hw
    refine z_put hC hZ hM0 hb0 zc8 27 (by decide) q1747 (fun _ h9 => h9) (by decide) rfl rfl hk0 dX9_read_31 (fun H locs hZ => ?_)
    generalize zu M _ _ = M at hw hZ
    refine lv_aload_n hx hb dX9_read_34 rfl (lv_at hl 0 rfl) ?_
    refine lv_iconst (v := (-1)) hx hb dX9_read_35 (by decide) ?_
    obtain ⟨fs0, hM0, hb0, hk0, hw⟩ := hw
    refine z_put hC hZ hM0 hb0 zc8 28 (by decide) q1748 (fun _ h9 => h9) (by decide) rfl rfl hk0 dX9_read_36 (fun H locs hZ => ?_)
    generalize zu M _ _ = M at hw hZ
    refine lv_iconst (v := 0) hx hb dX9_read_39 (by decide) ?_
    refine lv_istore_n (i := 2) (lv' := [(2, .int (0 : Int32)), (0, .ref o), (1, .int a0)]) hx hb dX9_read_40 rfl hl (by decide) rfl (fun ls hl1 => ?_)
    replace hl := hl1
    clear hl1
    obtain ⟨f1, hw⟩ := hw
    exact wk_X9_read_L41 hG f1 _ _ _ hk hn hZ (lv_sub hl [1, 2, 0] rfl) hw
  · replace hw := hw.2 c184
    refine lv_iconst (v := (-1)) hx hb dX9_read_7 (by decide) ?_
    exact z_iret hG hZ hk hn hw dX9_read_8
abbrev rm_X9_remains : Room := { frames := 3, cells := 0, slots := 0, locals := 111 }
def wp_X9_remains_L25 (D : zD) (post : Int64 → zM → Prop) (o : Nat) (M : zM) : Prop :=
    post (-9223372036854775808 : Int64) M
set_option maxHeartbeats 4000000 in
set_option maxRecDepth 100000 in
theorem wk_X9_remains_L25 {p : Program} {l : Launch} {e : Env} {s : State} {m : MethodId} {args : Array Value} {below : List Frame} {meth : Method} {c : Code} {D : zD} {post : Int64 → zM → Prop} {o : Nat} (hG : zGx p l s m args meth c cX9_remains 6 "PluralBranchesModel" D (some .long) "remains" []) : ∀ {H : Heap} {locs : List Loc} {cells slots : Nat} {ls : Array Slot} (M : zM), cells ≤ 0 → slots ≤ 0 → zS D M H locs → lv_has ls 6 [] → wp_X9_remains_L25 D post o M → W p l e rm_X9_remains s m args below meth c H locs cells slots (vx_MQ below (zQ D zL post) (zX D (fun _ _ => False)) args s 0 0 (zA D)) (F0 m 25 ls []) := by
  have hC := hG.1
  have hx := hC.x
  have hb := hC.b
  have hown := hC.o
  have hts := hC.ts
  have hlt := hG.2.2.2.2.2
  intro H locs cells slots ls M hk hn hZ hl hw
  refine lv_ldc2 hx hb hown (hts _ q1905) dX9_remains_25 ?_
  exact z_lret hG hZ hk hn hw dX9_remains_28
def wp_X9_remains_L187 (D : zD) (post : Int64 → zM → Prop) (o : Nat) (y0 : Int64) (M : zM) : Prop :=
    post y0 M
set_option maxHeartbeats 4000000 in
set_option maxRecDepth 100000 in
theorem wk_X9_remains_L187 {p : Program} {l : Launch} {e : Env} {s : State} {m : MethodId} {args : Array Value} {below : List Frame} {meth : Method} {c : Code} {D : zD} {post : Int64 → zM → Prop} {o : Nat} (hG : zGx p l s m args meth c cX9_remains 6 "PluralBranchesModel" D (some .long) "remains" []) : ∀ {H : Heap} {locs : List Loc} {cells slots : Nat} {ls : Array Slot} (y0 : Int64) (M : zM), cells ≤ 0 → slots ≤ 0 → zS D M H locs → lv_has ls 6 [] → wp_X9_remains_L187 D post o y0 M → W p l e rm_X9_remains s m args below meth c H locs cells slots (vx_MQ below (zQ D zL post) (zX D (fun _ _ => False)) args s 0 0 (zA D)) (F0 m 187 ls [.long y0]) := by
  have hC := hG.1
  have hx := hC.x
  have hb := hC.b
  have hown := hC.o
  have hts := hC.ts
  have hlt := hG.2.2.2.2.2
  intro H locs cells slots ls y0 M hk hn hZ hl hw
  exact z_lret hG hZ hk hn hw dX9_remains_187
def wp_X9_remains_L114 (D : zD) (post : Int64 → zM → Prop) (o : Nat) (y0 : Int64) (M : zM) : Prop :=
    post y0 M
set_option maxHeartbeats 4000000 in
set_option maxRecDepth 100000 in
theorem wk_X9_remains_L114 {p : Program} {l : Launch} {e : Env} {s : State} {m : MethodId} {args : Array Value} {below : List Frame} {meth : Method} {c : Code} {D : zD} {post : Int64 → zM → Prop} {o : Nat} (hG : zGx p l s m args meth c cX9_remains 6 "PluralBranchesModel" D (some .long) "remains" []) : ∀ {H : Heap} {locs : List Loc} {cells slots : Nat} {ls : Array Slot} (y0 : Int64) (M : zM), cells ≤ 0 → slots ≤ 0 → zS D M H locs → lv_has ls 6 [] → wp_X9_remains_L114 D post o y0 M → W p l e rm_X9_remains s m args below meth c H locs cells slots (vx_MQ below (zQ D zL post) (zX D (fun _ _ => False)) args s 0 0 (zA D)) (F0 m 114 ls [.long y0]) := by
  have hC := hG.1
  have hx := hC.x
  have hb := hC.b
  have hown := hC.o
  have hts := hC.ts
  have hlt := hG.2.2.2.2.2
  intro H locs cells slots ls y0 M hk hn hZ hl hw
  exact z_lret hG hZ hk hn hw dX9_remains_114
def wp_X9_remains_L153 (D : zD) (post : Int64 → zM → Prop) (o : Nat) (y0 : Int64) (M : zM) : Prop :=
    post y0 M
set_option maxHeartbeats 4000000 in
set_option maxRecDepth 100000 in
theorem wk_X9_remains_L153 {p : Program} {l : Launch} {e : Env} {s : State} {m : MethodId} {args : Array Value} {below : List Frame} {meth : Method} {c : Code} {D : zD} {post : Int64 → zM → Prop} {o : Nat} (hG : zGx p l s m args meth c cX9_remains 6 "PluralBranchesModel" D (some .long) "remains" []) : ∀ {H : Heap} {locs : List Loc} {cells slots : Nat} {ls : Array Slot} (y0 : Int64) (M : zM), cells ≤ 0 → slots ≤ 0 → zS D M H locs → lv_has ls 6 [] → wp_X9_remains_L153 D post o y0 M → W p l e rm_X9_remains s m args below meth c H locs cells slots (vx_MQ below (zQ D zL post) (zX D (fun _ _ => False)) args s 0 0 (zA D)) (F0 m 153 ls [.long y0]) := by
  have hC := hG.1
  have hx := hC.x
  have hb := hC.b
  have hown := hC.o
  have hts := hC.ts
  have hlt := hG.2.2.2.2.2
  intro H locs cells slots ls y0 M hk hn hZ hl hw
  exact z_lret hG hZ hk hn hw dX9_remains_153
def wp_X9_remains (D : zD) (post : Int64 → zM → Prop) (o : Nat) (a0 : Int32) (a1 : Int32) (a2 : Int32) (M : zM) : Prop :=
    (wp_X9_isRow D (fun r1 M => ((r1 = 0 → wp_X9_remains_L25 D post o M) ∧ (¬ r1 = 0 → ((zis M o [8] ∧ wp_X9_isThere D (fun r4 M => ((r4 = 0 → wp_X9_remains_L25 D post o M) ∧ (¬ r4 = 0 → ((zis M o [8] ∧ wp_X9_isThere D (fun r7 M => ((¬ r7 = 0 → (zgR M o 8 52 fun g10 => ((zd g10 fun b11 => zaI M b11 0 a0 fun v12 => ((v12 = 0 → (zgR M o 8 53 fun g13 => ((zd g13 fun b14 => zaF M b14 (((30 : Int32) * a0) + a2) fun v15 => ((¬ (Op.cmpValue (FP.fcmp v15 FP.fconst0) .l) = 0 → (zgR M o 8 53 fun g16 => ((zd g16 fun b17 => zaF M b17 (((30 : Int32) * a0) + a1) fun v18 => (zgR M o 8 53 fun g19 => ((zd g19 fun b20 => zaF M b20 (((30 : Int32) * a0) + a2) fun v21 => (vf_n32 (FP.frem v18 v21) ∧ (vf_n32 (FP.fmul (FP.frem v18 v21) (1148846080 : UInt32)) ∧ wp_X9_remains_L114 D post o (FP.f2l (FP.fmul (FP.frem v18 v21) (1148846080 : UInt32))) M))))))))) ∧ ((Op.cmpValue (FP.fcmp v15 FP.fconst0) .l) = 0 → wp_X9_remains_L114 D post o (-9223372036854775808 : Int64) M)))))) ∧ (v12 = 1 → (zgR M o 8 54 fun g23 => ((zd g23 fun b24 => zaD M b24 (((30 : Int32) * a0) + a2) fun v25 => ((¬ (Op.cmpValue (FP.dcmp v25 FP.dconst0) .l) = 0 → (zgR M o 8 54 fun g26 => ((zd g26 fun b27 => zaD M b27 (((30 : Int32) * a0) + a1) fun v28 => (zgR M o 8 54 fun g29 => ((zd g29 fun b30 => zaD M b30 (((30 : Int32) * a0) + a2) fun v31 => (vf_n64 (FP.drem v28 v31) ∧ (vf_n64 (FP.dmul (FP.drem v28 v31) (4652007308841189376 : UInt64)) ∧ wp_X9_remains_L153 D post o (FP.d2l (FP.dmul (FP.drem v28 v31) (4652007308841189376 : UInt64))) M))))))))) ∧ ((Op.cmpValue (FP.dcmp v25 FP.dconst0) .l) = 0 → wp_X9_remains_L153 D post o (-9223372036854775808 : Int64) M)))))) ∧ (¬ v12 = 0 ∧ ¬ v12 = 1 → (zgR M o 8 55 fun g33 => ((zd g33 fun b34 => zaL M b34 (((30 : Int32) * a0) + a2) fun v35 => ((¬ (lg_cmp v35 (0 : Int64)) = 0 → (zgR M o 8 55 fun g36 => ((zd g36 fun b37 => zaL M b37 (((30 : Int32) * a0) + a1) fun v38 => (zgR M o 8 55 fun g39 => ((zd g39 fun b40 => zaL M b40 (((30 : Int32) * a0) + a2) fun v41 => (¬ v41 = 0 ∧ wp_X9_remains_L187 D post o (v38 - v38 / v41 * v41) M)))))))) ∧ ((lg_cmp v35 (0 : Int64)) = 0 → wp_X9_remains_L187 D post o (-9223372036854775808 : Int64) M))))))))))) ∧ (r7 = 0 → wp_X9_remains_L25 D post o M))) o a0 a2 M))))) o a0 a1 M))))) a0 M)
set_option maxHeartbeats 4000000 in
set_option maxRecDepth 100000 in
theorem w_X9_remains {l : Launch} {D : zD} {post : Int64 → zM → Prop} (hlt : l.stackTraces = false) {o : Nat} {a0 : Int32} {a1 : Int32} {a2 : Int32} {M : zM} (hw : wp_X9_remains D post o a0 a1 a2 M) : zMet l D yX9_remains (ws_ yX9_remains cX9_remains 6 (some .long)) rm_X9_remains 0 0 [.ref o, .int a0, .int a1, .int a2] M zL post (fun _ _ => False) := by
  unfold wp_X9_remains at hw
  have hlv : lv_args 0 [.ref o, .int a0, .int a1, .int a2] = [(0, .ref o), (1, .int a0), (2, .int a1), (3, .int a2)] := (zargs1 rfl (zargs1 rfl (zargs1 rfl (zargs1 rfl rfl))))
  refine z_ofW hlt (by decide) (Nat.le_trans (zsl1 rfl (zsl1 rfl (zsl1 rfl (zsl1 rfl (Nat.le_refl 0 : (lg_sl []).length ≤ 0))))) (Nat.le_of_ble_eq_true rfl)) hlv ?_
  intro p e s m args below meth c ls hG hZ hl
  have hC := hG.1
  have hx := hC.x
  have hb := hC.b
  have hown := hC.o
  have hts := hC.ts
  have hlt := hG.2.2.2.2.2
  obtain ⟨cells, hce⟩ : ∃ z : Nat, z = 0 := ⟨0, rfl⟩
  obtain ⟨slots, hsl⟩ : ∃ z : Nat, z = 0 := ⟨0, rfl⟩
  refine W.cs (cells' := cells) (slots' := slots) hce.symm hsl.symm ?_
  have hk : cells ≤ 0 := Nat.le_of_eq hce
  have hn : slots ≤ 0 := Nat.le_of_eq hsl
  clear hce hsl
  refine lv_iload_n hx hb dX9_remains_0 rfl (lv_at hl 1 rfl) ?_
  refine z_callI hZ (vx_runS (As := [.int a0]) (rest := []) hC.fix (w_X9_isRow hlt hw) (va_cwS 1 hts (lw_S q2214 q2215 q83 q2216) rfl rfl rfl dd_X9_isRow ⟨Nat.le_of_ble_eq_true rfl, Nat.le_of_ble_eq_true rfl⟩) (z_preS hC hZ) rfl rfl hl.1 rfl (lv_room (Nat.zero_le _)) dX9_remains_1 ⟨hk, hn⟩) (fun r48 M H locs hw1 hZ => ?_) (fun q M H locs ci fs E T9 N9 hw hZ hc1 hM1 hb1 => False.elim hw)
  replace hw := hw1
  clear hw1
  refine W.cs (cells' := cells) (slots' := slots) rfl rfl ?_
  refine lv_if_eq (tgt := 25) hx hb dX9_remains_4 (by decide) (fun c94 => ?_) (fun c94 => ?_)
  · replace hw := hw.1 c94
    exact wk_X9_remains_L25 hG _ hk hn hZ (lv_sub hl [] rfl) hw
  · replace hw := hw.2 c94
    refine lv_aload_n hx hb dX9_remains_7 rfl (lv_at hl 0 rfl) ?_
    refine lv_iload_n hx hb dX9_remains_8 rfl (lv_at hl 1 rfl) ?_
    refine lv_iload_n hx hb dX9_remains_9 rfl (lv_at hl 2 rfl) ?_
    obtain ⟨⟨ci0, fs0, hci0, hM0⟩, hw⟩ := hw
    obtain rfl : ci0 = 8 := List.mem_singleton.mp hci0
    refine z_callI hZ (vx_runV (As := [.int a0, .int a1]) (rest := []) hC.fix (w_X9_isThere hlt hw) (cwV 2 hts (lw_V q2222 q2224 qs65 q83 q2225) rfl rfl rfl ⟨rfl, dd_X9_isThere⟩ ⟨Nat.le_of_ble_eq_true rfl, Nat.le_of_ble_eq_true rfl⟩) (z_preV hC hZ hM0 zc8) rfl rfl hl.1 rfl (lv_room (Nat.zero_le _)) dX9_remains_10 ⟨hk, hn⟩) (fun r51 M H locs hw1 hZ => ?_) (fun q M H locs ci fs E T9 N9 hw hZ hc1 hM1 hb1 => False.elim hw)
    replace hw := hw1
    clear hw1
    refine W.cs (cells' := cells) (slots' := slots) rfl rfl ?_
    refine lv_if_eq (tgt := 25) hx hb dX9_remains_13 (by decide) (fun c93 => ?_) (fun c93 => ?_)
    · replace hw := hw.1 c93
      exact wk_X9_remains_L25 hG _ hk hn hZ (lv_sub hl [] rfl) hw
    · replace hw := hw.2 c93
      refine lv_aload_n hx hb dX9_remains_16 rfl (lv_at hl 0 rfl) ?_
      refine lv_iload_n hx hb dX9_remains_17 rfl (lv_at hl 1 rfl) ?_
      refine lv_iload_n hx hb dX9_remains_18 rfl (lv_at hl 3 rfl) ?_
      obtain ⟨⟨ci0, fs0, hci0, hM0⟩, hw⟩ := hw
      obtain rfl : ci0 = 8 := List.mem_singleton.mp hci0
      refine z_callI hZ (vx_runV (As := [.int a0, .int a2]) (rest := []) hC.fix (w_X9_isThere hlt hw) (cwV 2 hts (lw_V q2222 q2224 qs65 q83 q2225) rfl rfl rfl ⟨rfl, dd_X9_isThere⟩ ⟨Nat.le_of_ble_eq_true rfl, Nat.le_of_ble_eq_true rfl⟩) (z_preV hC hZ hM0 zc8) rfl rfl hl.1 rfl (lv_room (Nat.zero_le _)) dX9_remains_19 ⟨hk, hn⟩) (fun r54 M H locs hw1 hZ => ?_) (fun q M H locs ci fs E T9 N9 hw hZ hc1 hM1 hb1 => False.elim hw)
      replace hw := hw1
      clear hw1
      refine W.cs (cells' := cells) (slots' := slots) rfl rfl ?_
      refine lv_if_ne (tgt := 29) hx hb dX9_remains_22 (by decide) (fun c92 => ?_) (fun c92 => ?_)
      · replace hw := hw.1 c92
        refine lv_bipush (v := 30) hx hb dX9_remains_29 (by decide) ?_
        refine lv_iload_n hx hb dX9_remains_31 rfl (lv_at hl 1 rfl) ?_
        refine lv_imul hx hb dX9_remains_32 ?_
        refine lv_iload_n hx hb dX9_remains_33 rfl (lv_at hl 2 rfl) ?_
        refine lv_iadd hx hb dX9_remains_34 ?_
        refine lv_istore (i := 4) (lv' := [(4, .int (((30 : Int32) * a0) + a1)), (0, .ref o), (1, .int a0), (2, .int a1), (3, .int a2)]) hx hb dX9_remains_35 hl (by decide) rfl (fun ls hl1 => ?_)
        replace hl := hl1
        clear hl1
        refine lv_bipush (v := 30) hx hb dX9_remains_37 (by decide) ?_
        refine lv_iload_n hx hb dX9_remains_39 rfl (lv_at hl 2 rfl) ?_
        refine lv_imul hx hb dX9_remains_40 ?_
        refine lv_iload_n hx hb dX9_remains_41 rfl (lv_at hl 4 rfl) ?_
        refine lv_iadd hx hb dX9_remains_42 ?_
        refine lv_istore (i := 5) (lv' := [(5, .int (((30 : Int32) * a0) + a2)), (4, .int (((30 : Int32) * a0) + a1)), (0, .ref o), (1, .int a0), (2, .int a1), (3, .int a2)]) hx hb dX9_remains_43 hl (by decide) rfl (fun ls hl1 => ?_)
        replace hl := hl1
        clear hl1
        refine lv_aload_n hx hb dX9_remains_45 rfl (lv_at hl 2 rfl) ?_
        obtain ⟨fs0, g57, hM0, hx0, hw⟩ := hw
        refine z_get hC hZ hM0 zc8 52 (by decide) q1772 (fun _ h9 => h9) hx0 dX9_remains_46 ?_
        refine lv_iload_n hx hb dX9_remains_49 rfl (lv_at hl 3 rfl) ?_
        obtain ⟨b58, hr0, hw⟩ := hw
        subst hr0
        obtain ⟨n0, f0, hM0, hi0, hw⟩ := hw
        refine z_iald hC hZ hM0 hi0 dX9_remains_50 ?_
        generalize f0 _ = v59 at hw ⊢
        by_cases e90 : v59 = 0
        · replace hw := hw.1 e90
          refine lv_lookup (tgt := 76) (off := 25) hx hb dX9_remains_51 (by decide) (by rw [e90]; decide) (by decide) ?_
          refine lv_aload_n hx hb dX9_remains_76 rfl (lv_at hl 2 rfl) ?_
          obtain ⟨fs0, g60, hM0, hx0, hw⟩ := hw
          refine z_get hC hZ hM0 zc8 53 (by decide) q1773 (fun _ h9 => h9) hx0 dX9_remains_77 ?_
          refine lv_iload hx hb dX9_remains_80 (lv_at hl 0 rfl) ?_
          obtain ⟨b61, hr0, hw⟩ := hw
          subst hr0
          obtain ⟨n0, f0, hM0, hi0, hw⟩ := hw
          refine z_fald hC hZ hM0 hi0 dX9_remains_82 ?_
          generalize f0 _ = v62 at hw ⊢
          refine lv_fconst0 hx hb dX9_remains_83 ?_
          refine lv_fcmp hx hb dX9_remains_84 ?_
          refine lv_if_ne (tgt := 94) hx hb dX9_remains_85 (by decide) (fun c69 => ?_) (fun c69 => ?_)
          · replace hw := hw.1 c69
            refine lv_aload_n hx hb dX9_remains_94 rfl (lv_at hl 2 rfl) ?_
            obtain ⟨fs0, g63, hM0, hx0, hw⟩ := hw
            refine z_get hC hZ hM0 zc8 53 (by decide) q1773 (fun _ h9 => h9) hx0 dX9_remains_95 ?_
            refine lv_iload hx hb dX9_remains_98 (lv_at hl 1 rfl) ?_
            obtain ⟨b64, hr0, hw⟩ := hw
            subst hr0
            obtain ⟨n0, f0, hM0, hi0, hw⟩ := hw
            refine z_fald hC hZ hM0 hi0 dX9_remains_100 ?_
            generalize f0 _ = v65 at hw ⊢
            refine lv_aload_n hx hb dX9_remains_101 rfl (lv_at hl 2 rfl) ?_
            obtain ⟨fs0, g66, hM0, hx0, hw⟩ := hw
            refine z_get hC hZ hM0 zc8 53 (by decide) q1773 (fun _ h9 => h9) hx0 dX9_remains_102 ?_
            refine lv_iload hx hb dX9_remains_105 (lv_at hl 0 rfl) ?_
            obtain ⟨b67, hr0, hw⟩ := hw
            subst hr0
            obtain ⟨n0, f0, hM0, hi0, hw⟩ := hw
            refine z_fald hC hZ hM0 hi0 dX9_remains_107 ?_
            generalize f0 _ = v68 at hw ⊢
            obtain ⟨hnf, hw⟩ := hw
            refine lv_frem hx hb dX9_remains_108 hnf ?_
            refine z_ldcwf hC q2234 dX9_remains_109 ?_
            obtain ⟨hnf, hw⟩ := hw
            refine lv_fmul hx hb dX9_remains_112 hnf ?_
            refine lv_f2l hx hb dX9_remains_113 ?_
            exact wk_X9_remains_L114 hG _ _ hk hn hZ (lv_sub hl [] rfl) hw
          · replace hw := hw.2 c69
            refine lv_ldc2 hx hb hown (hts _ q1905) dX9_remains_88 ?_
            refine lv_goto (tgt := 114) hx hb dX9_remains_91 (by decide) ?_
            exact wk_X9_remains_L114 hG _ _ hk hn hZ (lv_sub hl [] rfl) hw
        by_cases e91 : v59 = 1
        · replace hw := hw.2.1 e91
          refine lv_lookup (tgt := 115) (off := 64) hx hb dX9_remains_51 (by decide) (by rw [e91]; decide) (by decide) ?_
          refine lv_aload_n hx hb dX9_remains_115 rfl (lv_at hl 2 rfl) ?_
          obtain ⟨fs0, g70, hM0, hx0, hw⟩ := hw
          refine z_get hC hZ hM0 zc8 54 (by decide) q1774 (fun _ h9 => h9) hx0 dX9_remains_116 ?_
          refine lv_iload hx hb dX9_remains_119 (lv_at hl 0 rfl) ?_
          obtain ⟨b71, hr0, hw⟩ := hw
          subst hr0
          obtain ⟨n0, f0, hM0, hi0, hw⟩ := hw
          refine z_dald hC hZ hM0 hi0 dX9_remains_121 ?_
          generalize f0 _ = v72 at hw ⊢
          refine lv_dconst0 hx hb dX9_remains_122 ?_
          refine lv_dcmp hx hb dX9_remains_123 ?_
          refine lv_if_ne (tgt := 133) hx hb dX9_remains_124 (by decide) (fun c79 => ?_) (fun c79 => ?_)
          · replace hw := hw.1 c79
            refine lv_aload_n hx hb dX9_remains_133 rfl (lv_at hl 2 rfl) ?_
            obtain ⟨fs0, g73, hM0, hx0, hw⟩ := hw
            refine z_get hC hZ hM0 zc8 54 (by decide) q1774 (fun _ h9 => h9) hx0 dX9_remains_134 ?_
            refine lv_iload hx hb dX9_remains_137 (lv_at hl 1 rfl) ?_
            obtain ⟨b74, hr0, hw⟩ := hw
            subst hr0
            obtain ⟨n0, f0, hM0, hi0, hw⟩ := hw
            refine z_dald hC hZ hM0 hi0 dX9_remains_139 ?_
            generalize f0 _ = v75 at hw ⊢
            refine lv_aload_n hx hb dX9_remains_140 rfl (lv_at hl 2 rfl) ?_
            obtain ⟨fs0, g76, hM0, hx0, hw⟩ := hw
            refine z_get hC hZ hM0 zc8 54 (by decide) q1774 (fun _ h9 => h9) hx0 dX9_remains_141 ?_
            refine lv_iload hx hb dX9_remains_144 (lv_at hl 0 rfl) ?_
            obtain ⟨b77, hr0, hw⟩ := hw
            subst hr0
            obtain ⟨n0, f0, hM0, hi0, hw⟩ := hw
            refine z_dald hC hZ hM0 hi0 dX9_remains_146 ?_
            generalize f0 _ = v78 at hw ⊢
            obtain ⟨hnf, hw⟩ := hw
            refine lv_drem hx hb dX9_remains_147 hnf ?_
            refine lv_ldc2d hx hb hown (hts _ q2235) dX9_remains_148 ?_
            obtain ⟨hnf, hw⟩ := hw
            refine lv_dmul hx hb dX9_remains_151 hnf ?_
            refine lv_d2l hx hb dX9_remains_152 ?_
            exact wk_X9_remains_L153 hG _ _ hk hn hZ (lv_sub hl [] rfl) hw
          · replace hw := hw.2 c79
            refine lv_ldc2 hx hb hown (hts _ q1905) dX9_remains_127 ?_
            refine lv_goto (tgt := 153) hx hb dX9_remains_130 (by decide) ?_
            exact wk_X9_remains_L153 hG _ _ hk hn hZ (lv_sub hl [] rfl) hw
        replace hw := hw.2.2 ⟨e90, e91⟩
        refine lv_lookup (tgt := 154) (off := 103) hx hb dX9_remains_51 (by decide) (by rw [lv_osw e90 (by decide), lv_osw e91 (by decide)]; rfl) (by decide) ?_
        refine lv_aload_n hx hb dX9_remains_154 rfl (lv_at hl 2 rfl) ?_
        obtain ⟨fs0, g80, hM0, hx0, hw⟩ := hw
        refine z_get hC hZ hM0 zc8 55 (by decide) q1775 (fun _ h9 => h9) hx0 dX9_remains_155 ?_
        refine lv_iload hx hb dX9_remains_158 (lv_at hl 0 rfl) ?_
        obtain ⟨b81, hr0, hw⟩ := hw
        subst hr0
        obtain ⟨n0, f0, hM0, hi0, hw⟩ := hw
        refine z_lald hC hZ hM0 hi0 dX9_remains_160 ?_
        generalize f0 _ = v82 at hw ⊢
        refine lv_lconst (v := 0) hx hb dX9_remains_161 (by decide) ?_
        refine W.lcmp hx hb dX9_remains_162 ?_
        refine lv_if_ne (tgt := 172) hx hb dX9_remains_163 (by decide) (fun c89 => ?_) (fun c89 => ?_)
        · replace hw := hw.1 c89
          refine lv_aload_n hx hb dX9_remains_172 rfl (lv_at hl 2 rfl) ?_
          obtain ⟨fs0, g83, hM0, hx0, hw⟩ := hw
          refine z_get hC hZ hM0 zc8 55 (by decide) q1775 (fun _ h9 => h9) hx0 dX9_remains_173 ?_
          refine lv_iload hx hb dX9_remains_176 (lv_at hl 1 rfl) ?_
          obtain ⟨b84, hr0, hw⟩ := hw
          subst hr0
          obtain ⟨n0, f0, hM0, hi0, hw⟩ := hw
          refine z_lald hC hZ hM0 hi0 dX9_remains_178 ?_
          generalize f0 _ = v85 at hw ⊢
          refine lv_aload_n hx hb dX9_remains_179 rfl (lv_at hl 2 rfl) ?_
          obtain ⟨fs0, g86, hM0, hx0, hw⟩ := hw
          refine z_get hC hZ hM0 zc8 55 (by decide) q1775 (fun _ h9 => h9) hx0 dX9_remains_180 ?_
          refine lv_iload hx hb dX9_remains_183 (lv_at hl 0 rfl) ?_
          obtain ⟨b87, hr0, hw⟩ := hw
          subst hr0
          obtain ⟨n0, f0, hM0, hi0, hw⟩ := hw
          refine z_lald hC hZ hM0 hi0 dX9_remains_185 ?_
          generalize f0 _ = v88 at hw ⊢
          obtain ⟨hz0, hw⟩ := hw
          refine lv_lrem hx hb dX9_remains_186 hz0 ?_
          exact wk_X9_remains_L187 hG _ _ hk hn hZ (lv_sub hl [] rfl) hw
        · replace hw := hw.2 c89
          refine lv_ldc2 hx hb hown (hts _ q1905) dX9_remains_166 ?_
          refine lv_goto (tgt := 187) hx hb dX9_remains_169 (by decide) ?_
          exact wk_X9_remains_L187 hG _ _ hk hn hZ (lv_sub hl [] rfl) hw
      · replace hw := hw.2 c92
        exact wk_X9_remains_L25 hG _ hk hn hZ (lv_sub hl [] rfl) hw
abbrev rm_X9_row : Room := { frames := 3, cells := 0, slots := 0, locals := 109 }
def wp_X9_row_L31 (D : zD) (post : Int32 → zM → Prop) (o : Nat) (M : zM) : Prop :=
    post (-1 : Int32) M
set_option maxHeartbeats 4000000 in
set_option maxRecDepth 100000 in
theorem wk_X9_row_L31 {p : Program} {l : Launch} {e : Env} {s : State} {m : MethodId} {args : Array Value} {below : List Frame} {meth : Method} {c : Code} {D : zD} {post : Int32 → zM → Prop} {o : Nat} (hG : zGx p l s m args meth c cX9_row 5 "PluralBranchesModel" D (some .int) "row" []) : ∀ {H : Heap} {locs : List Loc} {cells slots : Nat} {ls : Array Slot} (M : zM), cells ≤ 0 → slots ≤ 0 → zS D M H locs → lv_has ls 5 [] → wp_X9_row_L31 D post o M → W p l e rm_X9_row s m args below meth c H locs cells slots (vx_MQ below (zQ D zI post) (zX D (fun _ _ => False)) args s 0 0 (zA D)) (F0 m 31 ls []) := by
  have hC := hG.1
  have hx := hC.x
  have hb := hC.b
  have hown := hC.o
  have hts := hC.ts
  have hlt := hG.2.2.2.2.2
  intro H locs cells slots ls M hk hn hZ hl hw
  refine lv_iconst (v := (-1)) hx hb dX9_row_31 (by decide) ?_
  exact z_iret hG hZ hk hn hw dX9_row_32
def wp_X9_row_L72 (D : zD) (post : Int32 → zM → Prop) (o : Nat) : Nat → Int32 → Int32 → zM → Prop
  | 0 => fun _ _ _ => False
  | f + 1 => fun x1 x4 M =>
    (((((30 : Int32) * x1) + (30 : Int32)) ≤ x4 → post (1 : Int32) M) ∧ (¬ (((30 : Int32) * x1) + (30 : Int32)) ≤ x4 → (zgR M o 8 53 fun g1 => ((zd g1 fun b2 => zsF D M b2 x4 FP.fconst0 fun M => (zgR M o 8 54 fun g3 => ((zd g3 fun b4 => zsD D M b4 x4 FP.dconst0 fun M => (zgR M o 8 55 fun g5 => ((zd g5 fun b6 => zsL D M b6 x4 (0 : Int64) fun M => wp_X9_row_L72 D post o f x1 (x4 + 1) M)))))))))))
set_option maxHeartbeats 4000000 in
set_option maxRecDepth 100000 in
theorem wk_X9_row_L72 {p : Program} {l : Launch} {e : Env} {s : State} {m : MethodId} {args : Array Value} {below : List Frame} {meth : Method} {c : Code} {D : zD} {post : Int32 → zM → Prop} {o : Nat} (hG : zGx p l s m args meth c cX9_row 5 "PluralBranchesModel" D (some .int) "row" []) : ∀ (f : Nat), ∀ {H : Heap} {locs : List Loc} {cells slots : Nat} {ls : Array Slot} (x1 : Int32) (x4 : Int32) (M : zM), cells ≤ 0 → slots ≤ 0 → zS D M H locs → lv_has ls 5 [(0, .ref o), (1, .int x1), (4, .int x4)] → wp_X9_row_L72 D post o f x1 x4 M → W p l e rm_X9_row s m args below meth c H locs cells slots (vx_MQ below (zQ D zI post) (zX D (fun _ _ => False)) args s 0 0 (zA D)) (F0 m 72 ls []) := by
  have hC := hG.1
  have hx := hC.x
  have hb := hC.b
  have hown := hC.o
  have hts := hC.ts
  have hlt := hG.2.2.2.2.2
  intro f
  induction f with
  | zero =>
    intro H locs cells slots ls x1 x4 M hk hn hZ hl hw
    exact absurd hw (fun h => h)
  | succ f ih =>
    intro H locs cells slots ls x1 x4 M hk hn hZ hl hw
    refine lv_iload hx hb dX9_row_72 (lv_at hl 2 rfl) ?_
    refine lv_bipush (v := 30) hx hb dX9_row_74 (by decide) ?_
    refine lv_iload_n hx hb dX9_row_76 rfl (lv_at hl 1 rfl) ?_
    refine lv_imul hx hb dX9_row_77 ?_
    refine lv_bipush (v := 30) hx hb dX9_row_78 (by decide) ?_
    refine lv_iadd hx hb dX9_row_80 ?_
    refine lv_icmp_ge (tgt := 114) hx hb dX9_row_81 (by decide) (fun c14 => ?_) (fun c14 => ?_)
    · replace hw := hw.1 c14
      refine lv_iconst (v := 1) hx hb dX9_row_114 (by decide) ?_
      exact z_iret hG hZ hk hn hw dX9_row_115
    · replace hw := hw.2 c14
      refine lv_aload_n hx hb dX9_row_84 rfl (lv_at hl 0 rfl) ?_
      obtain ⟨fs0, g8, hM0, hx0, hw⟩ := hw
      refine z_get hC hZ hM0 zc8 53 (by decide) q1773 (fun _ h9 => h9) hx0 dX9_row_85 ?_
      refine lv_iload hx hb dX9_row_88 (lv_at hl 2 rfl) ?_
      refine lv_fconst0 hx hb dX9_row_90 ?_
      obtain ⟨b9, hr0, hw⟩ := hw
      subst hr0
      obtain ⟨n0, f0, hM0, hb0, hi0, hw⟩ := hw
      refine z_fast hC hZ hM0 hb0 hi0 dX9_row_91 (fun H locs hZ => ?_)
      generalize zu M _ _ = M at hw hZ
      refine lv_aload_n hx hb dX9_row_92 rfl (lv_at hl 0 rfl) ?_
      obtain ⟨fs0, g10, hM0, hx0, hw⟩ := hw
      refine z_get hC hZ hM0 zc8 54 (by decide) q1774 (fun _ h9 => h9) hx0 dX9_row_93 ?_
      refine lv_iload hx hb dX9_row_96 (lv_at hl 2 rfl) ?_
      refine lv_dconst0 hx hb dX9_row_98 ?_
      obtain ⟨b11, hr0, hw⟩ := hw
      subst hr0
      obtain ⟨n0, f0, hM0, hb0, hi0, hw⟩ := hw
      refine z_dast hC hZ hM0 hb0 hi0 dX9_row_99 (fun H locs hZ => ?_)
      generalize zu M _ _ = M at hw hZ
      refine lv_aload_n hx hb dX9_row_100 rfl (lv_at hl 0 rfl) ?_
      obtain ⟨fs0, g12, hM0, hx0, hw⟩ := hw
      refine z_get hC hZ hM0 zc8 55 (by decide) q1775 (fun _ h9 => h9) hx0 dX9_row_101 ?_
      refine lv_iload hx hb dX9_row_104 (lv_at hl 2 rfl) ?_
      refine lv_lconst (v := 0) hx hb dX9_row_106 (by decide) ?_
      obtain ⟨b13, hr0, hw⟩ := hw
      subst hr0
      obtain ⟨n0, f0, hM0, hb0, hi0, hw⟩ := hw
      refine z_last hC hZ hM0 hb0 hi0 dX9_row_107 (fun H locs hZ => ?_)
      generalize zu M _ _ = M at hw hZ
      refine lv_iinc (v := (x4 + 1)) (lv' := [(4, .int (x4 + 1)), (0, .ref o), (1, .int x1)]) hx hb dX9_row_108 hl (k := 2) rfl rfl (by decide) rfl (fun ls hl1 => ?_)
      replace hl := hl1
      clear hl1
      refine lv_goto (tgt := 72) hx hb dX9_row_111 (by decide) ?_
      exact ih _ _ _ hk hn hZ (lv_sub hl [1, 2, 0] rfl) hw
def wp_X9_row_L58 (D : zD) (post : Int32 → zM → Prop) (o : Nat) (x1 : Int32) (x2 : Int32) (y0 : Option Nat) (y1 : Int32) (y2 : Int32) (M : zM) : Prop :=
    ((zd y0 fun b15 => zsI D M b15 y1 y2 fun M => (zgR M o 8 52 fun g16 => ((zd g16 fun b17 => zsI D M b17 x1 x2 fun M => (∃ f, wp_X9_row_L72 D post o f x1 ((30 : Int32) * x1) M))))))
set_option maxHeartbeats 4000000 in
set_option maxRecDepth 100000 in
theorem wk_X9_row_L58 {p : Program} {l : Launch} {e : Env} {s : State} {m : MethodId} {args : Array Value} {below : List Frame} {meth : Method} {c : Code} {D : zD} {post : Int32 → zM → Prop} {o : Nat} (hG : zGx p l s m args meth c cX9_row 5 "PluralBranchesModel" D (some .int) "row" []) : ∀ {H : Heap} {locs : List Loc} {cells slots : Nat} {ls : Array Slot} (x1 : Int32) (x2 : Int32) (y0 : Option Nat) (y1 : Int32) (y2 : Int32) (M : zM), cells ≤ 0 → slots ≤ 0 → zS D M H locs → lv_has ls 5 [(0, .ref o), (1, .int x1), (2, .int x2)] → wp_X9_row_L58 D post o x1 x2 y0 y1 y2 M → W p l e rm_X9_row s m args below meth c H locs cells slots (vx_MQ below (zQ D zI post) (zX D (fun _ _ => False)) args s 0 0 (zA D)) (F0 m 58 ls [.int y2, .int y1, va_rf y0]) := by
  have hC := hG.1
  have hx := hC.x
  have hb := hC.b
  have hown := hC.o
  have hts := hC.ts
  have hlt := hG.2.2.2.2.2
  intro H locs cells slots ls x1 x2 y0 y1 y2 M hk hn hZ hl hw
  obtain ⟨b18, hr0, hw⟩ := hw
  subst hr0
  obtain ⟨n0, f0, hM0, hb0, hi0, hw⟩ := hw
  refine z_iast hC hZ hM0 hb0 hi0 dX9_row_58 (fun H locs hZ => ?_)
  generalize zu M _ _ = M at hw hZ
  refine lv_aload_n hx hb dX9_row_59 rfl (lv_at hl 0 rfl) ?_
  obtain ⟨fs0, g19, hM0, hx0, hw⟩ := hw
  refine z_get hC hZ hM0 zc8 52 (by decide) q1772 (fun _ h9 => h9) hx0 dX9_row_60 ?_
  refine lv_iload_n hx hb dX9_row_63 rfl (lv_at hl 1 rfl) ?_
  refine lv_iload_n hx hb dX9_row_64 rfl (lv_at hl 2 rfl) ?_
  obtain ⟨b20, hr0, hw⟩ := hw
  subst hr0
  obtain ⟨n0, f0, hM0, hb0, hi0, hw⟩ := hw
  refine z_iast hC hZ hM0 hb0 hi0 dX9_row_65 (fun H locs hZ => ?_)
  generalize zu M _ _ = M at hw hZ
  refine lv_bipush (v := 30) hx hb dX9_row_66 (by decide) ?_
  refine lv_iload_n hx hb dX9_row_68 rfl (lv_at hl 1 rfl) ?_
  refine lv_imul hx hb dX9_row_69 ?_
  refine lv_istore (i := 4) (lv' := [(4, .int ((30 : Int32) * x1)), (0, .ref o), (1, .int x1), (2, .int x2)]) hx hb dX9_row_70 hl (by decide) rfl (fun ls hl1 => ?_)
  replace hl := hl1
  clear hl1
  obtain ⟨f1, hw⟩ := hw
  exact wk_X9_row_L72 hG f1 _ _ _ hk hn hZ (lv_sub hl [1, 2, 0] rfl) hw
def wp_X9_row_L44 (D : zD) (post : Int32 → zM → Prop) (o : Nat) (x1 : Int32) (x2 : Int32) (x3 : Int32) (M : zM) : Prop :=
    (zgR M o 8 51 fun g21 => ((0 ≤ x2 → wp_X9_row_L58 D post o x1 x2 g21 x1 x3 M) ∧ (¬ 0 ≤ x2 → wp_X9_row_L58 D post o x1 x2 g21 x1 (-1 : Int32) M)))
set_option maxHeartbeats 4000000 in
set_option maxRecDepth 100000 in
theorem wk_X9_row_L44 {p : Program} {l : Launch} {e : Env} {s : State} {m : MethodId} {args : Array Value} {below : List Frame} {meth : Method} {c : Code} {D : zD} {post : Int32 → zM → Prop} {o : Nat} (hG : zGx p l s m args meth c cX9_row 5 "PluralBranchesModel" D (some .int) "row" []) : ∀ {H : Heap} {locs : List Loc} {cells slots : Nat} {ls : Array Slot} (x1 : Int32) (x2 : Int32) (x3 : Int32) (M : zM), cells ≤ 0 → slots ≤ 0 → zS D M H locs → lv_has ls 5 [(0, .ref o), (1, .int x1), (2, .int x2), (3, .int x3)] → wp_X9_row_L44 D post o x1 x2 x3 M → W p l e rm_X9_row s m args below meth c H locs cells slots (vx_MQ below (zQ D zI post) (zX D (fun _ _ => False)) args s 0 0 (zA D)) (F0 m 44 ls []) := by
  have hC := hG.1
  have hx := hC.x
  have hb := hC.b
  have hown := hC.o
  have hts := hC.ts
  have hlt := hG.2.2.2.2.2
  intro H locs cells slots ls x1 x2 x3 M hk hn hZ hl hw
  refine lv_aload_n hx hb dX9_row_44 rfl (lv_at hl 0 rfl) ?_
  obtain ⟨fs0, g23, hM0, hx0, hw⟩ := hw
  refine z_get hC hZ hM0 zc8 51 (by decide) q1771 (fun _ h9 => h9) hx0 dX9_row_45 ?_
  refine lv_iload_n hx hb dX9_row_48 rfl (lv_at hl 1 rfl) ?_
  refine lv_iload_n hx hb dX9_row_49 rfl (lv_at hl 2 rfl) ?_
  refine lv_if_ge (tgt := 57) hx hb dX9_row_50 (by decide) (fun c24 => ?_) (fun c24 => ?_)
  · replace hw := hw.1 c24
    refine lv_iload_n hx hb dX9_row_57 rfl (lv_at hl 3 rfl) ?_
    exact wk_X9_row_L58 hG _ _ _ _ _ _ hk hn hZ (lv_sub hl [0, 1, 2] rfl) hw
  · replace hw := hw.2 c24
    refine lv_iconst (v := (-1)) hx hb dX9_row_53 (by decide) ?_
    refine lv_goto (tgt := 58) hx hb dX9_row_54 (by decide) ?_
    exact wk_X9_row_L58 hG _ _ _ _ _ _ hk hn hZ (lv_sub hl [0, 1, 2] rfl) hw
def wp_X9_row_L33 (D : zD) (post : Int32 → zM → Prop) (o : Nat) (x1 : Int32) (x2 : Int32) (x3 : Int32) (M : zM) : Prop :=
    ((x2 < 0 → wp_X9_row_L44 D post o x1 x2 x3 M) ∧ (¬ x2 < 0 → ((0 ≤ x3 → wp_X9_row_L44 D post o x1 x2 x3 M) ∧ (¬ 0 ≤ x3 → post (-14 : Int32) M))))
set_option maxHeartbeats 4000000 in
set_option maxRecDepth 100000 in
theorem wk_X9_row_L33 {p : Program} {l : Launch} {e : Env} {s : State} {m : MethodId} {args : Array Value} {below : List Frame} {meth : Method} {c : Code} {D : zD} {post : Int32 → zM → Prop} {o : Nat} (hG : zGx p l s m args meth c cX9_row 5 "PluralBranchesModel" D (some .int) "row" []) : ∀ {H : Heap} {locs : List Loc} {cells slots : Nat} {ls : Array Slot} (x1 : Int32) (x2 : Int32) (x3 : Int32) (M : zM), cells ≤ 0 → slots ≤ 0 → zS D M H locs → lv_has ls 5 [(0, .ref o), (1, .int x1), (2, .int x2), (3, .int x3)] → wp_X9_row_L33 D post o x1 x2 x3 M → W p l e rm_X9_row s m args below meth c H locs cells slots (vx_MQ below (zQ D zI post) (zX D (fun _ _ => False)) args s 0 0 (zA D)) (F0 m 33 ls []) := by
  have hC := hG.1
  have hx := hC.x
  have hb := hC.b
  have hown := hC.o
  have hts := hC.ts
  have hlt := hG.2.2.2.2.2
  intro H locs cells slots ls x1 x2 x3 M hk hn hZ hl hw
  refine lv_iload_n hx hb dX9_row_33 rfl (lv_at hl 2 rfl) ?_
  refine lv_if_lt (tgt := 44) hx hb dX9_row_34 (by decide) (fun c28 => ?_) (fun c28 => ?_)
  · replace hw := hw.1 c28
    exact wk_X9_row_L44 hG _ _ _ _ hk hn hZ (lv_sub hl [0, 1, 2, 3] rfl) hw
  · replace hw := hw.2 c28
    refine lv_iload_n hx hb dX9_row_37 rfl (lv_at hl 3 rfl) ?_
    refine lv_if_ge (tgt := 44) hx hb dX9_row_38 (by decide) (fun c27 => ?_) (fun c27 => ?_)
    · replace hw := hw.1 c27
      exact wk_X9_row_L44 hG _ _ _ _ hk hn hZ (lv_sub hl [0, 1, 2, 3] rfl) hw
    · replace hw := hw.2 c27
      refine lv_bipush (v := (-14)) hx hb dX9_row_41 (by decide) ?_
      exact z_iret hG hZ hk hn hw dX9_row_43
def wp_X9_row (D : zD) (post : Int32 → zM → Prop) (o : Nat) (a0 : Int32) (a1 : Int32) (a2 : Int32) (M : zM) : Prop :=
    (wp_X9_isRow D (fun r29 M => ((r29 = 0 → wp_X9_row_L31 D post o M) ∧ (¬ r29 = 0 → (wp_X9_in D (fun r32 M => ((r32 = 0 → wp_X9_row_L31 D post o M) ∧ (¬ r32 = 0 → ((a1 < 0 → wp_X9_row_L33 D post o a0 a1 a2 M) ∧ (¬ a1 < 0 → ((a2 ≤ (30 : Int32) → wp_X9_row_L33 D post o a0 a1 a2 M) ∧ (¬ a2 ≤ (30 : Int32) → wp_X9_row_L31 D post o M))))))) (a1.toInt64) (-1 : Int64) (2 : Int64) M)))) a0 M)
set_option maxHeartbeats 4000000 in
set_option maxRecDepth 100000 in
theorem w_X9_row {l : Launch} {D : zD} {post : Int32 → zM → Prop} (hlt : l.stackTraces = false) {o : Nat} {a0 : Int32} {a1 : Int32} {a2 : Int32} {M : zM} (hw : wp_X9_row D post o a0 a1 a2 M) : zMet l D yX9_row (ws_ yX9_row cX9_row 5 (some .int)) rm_X9_row 0 0 [.ref o, .int a0, .int a1, .int a2] M zI post (fun _ _ => False) := by
  unfold wp_X9_row at hw
  have hlv : lv_args 0 [.ref o, .int a0, .int a1, .int a2] = [(0, .ref o), (1, .int a0), (2, .int a1), (3, .int a2)] := (zargs1 rfl (zargs1 rfl (zargs1 rfl (zargs1 rfl rfl))))
  refine z_ofW hlt (by decide) (Nat.le_trans (zsl1 rfl (zsl1 rfl (zsl1 rfl (zsl1 rfl (Nat.le_refl 0 : (lg_sl []).length ≤ 0))))) (Nat.le_of_ble_eq_true rfl)) hlv ?_
  intro p e s m args below meth c ls hG hZ hl
  have hC := hG.1
  have hx := hC.x
  have hb := hC.b
  have hown := hC.o
  have hts := hC.ts
  have hlt := hG.2.2.2.2.2
  obtain ⟨cells, hce⟩ : ∃ z : Nat, z = 0 := ⟨0, rfl⟩
  obtain ⟨slots, hsl⟩ : ∃ z : Nat, z = 0 := ⟨0, rfl⟩
  refine W.cs (cells' := cells) (slots' := slots) hce.symm hsl.symm ?_
  have hk : cells ≤ 0 := Nat.le_of_eq hce
  have hn : slots ≤ 0 := Nat.le_of_eq hsl
  clear hce hsl
  refine lv_iload_n hx hb dX9_row_0 rfl (lv_at hl 1 rfl) ?_
  refine z_callI hZ (vx_runS (As := [.int a0]) (rest := []) hC.fix (w_X9_isRow hlt hw) (va_cwS 1 hts (lw_S q2214 q2215 q83 q2216) rfl rfl rfl dd_X9_isRow ⟨Nat.le_of_ble_eq_true rfl, Nat.le_of_ble_eq_true rfl⟩) (z_preS hC hZ) rfl rfl hl.1 rfl (lv_room (Nat.zero_le _)) dX9_row_1 ⟨hk, hn⟩) (fun r39 M H locs hw1 hZ => ?_) (fun q M H locs ci fs E T9 N9 hw hZ hc1 hM1 hb1 => False.elim hw)
  replace hw := hw1
  clear hw1
  refine W.cs (cells' := cells) (slots' := slots) rfl rfl ?_
  refine lv_if_eq (tgt := 31) hx hb dX9_row_4 (by decide) (fun c48 => ?_) (fun c48 => ?_)
  · replace hw := hw.1 c48
    exact wk_X9_row_L31 hG _ hk hn hZ (lv_sub hl [] rfl) hw
  · replace hw := hw.2 c48
    refine lv_iload_n hx hb dX9_row_7 rfl (lv_at hl 2 rfl) ?_
    refine lv_i2l hx hb dX9_row_8 rfl ?_
    refine lv_ldc2 hx hb hown (hts _ q2217) dX9_row_9 ?_
    refine lv_ldc2 hx hb hown (hts _ q1931) dX9_row_12 ?_
    refine z_callI hZ (vx_runS (As := [.long (a1.toInt64), .long (-1 : Int64), .long (2 : Int64)]) (rest := []) hC.fix (w_X9_in hlt hw) (va_cwS 3 hts (lw_S q1894 q1895 q83 q1896) rfl rfl rfl dd_X9_in ⟨Nat.le_of_ble_eq_true rfl, Nat.le_of_ble_eq_true rfl⟩) (z_preS hC hZ) rfl rfl hl.1 rfl (lv_room (Nat.zero_le _)) dX9_row_15 ⟨hk, hn⟩) (fun r42 M H locs hw1 hZ => ?_) (fun q M H locs ci fs E T9 N9 hw hZ hc1 hM1 hb1 => False.elim hw)
    replace hw := hw1
    clear hw1
    refine W.cs (cells' := cells) (slots' := slots) rfl rfl ?_
    refine lv_if_eq (tgt := 31) hx hb dX9_row_18 (by decide) (fun c47 => ?_) (fun c47 => ?_)
    · replace hw := hw.1 c47
      exact wk_X9_row_L31 hG _ hk hn hZ (lv_sub hl [] rfl) hw
    · replace hw := hw.2 c47
      refine lv_iload_n hx hb dX9_row_21 rfl (lv_at hl 2 rfl) ?_
      refine lv_if_lt (tgt := 33) hx hb dX9_row_22 (by decide) (fun c46 => ?_) (fun c46 => ?_)
      · replace hw := hw.1 c46
        exact wk_X9_row_L33 hG _ _ _ _ hk hn hZ (lv_sub hl [0, 1, 2, 3] rfl) hw
      · replace hw := hw.2 c46
        refine lv_iload_n hx hb dX9_row_25 rfl (lv_at hl 3 rfl) ?_
        refine lv_bipush (v := 30) hx hb dX9_row_26 (by decide) ?_
        refine lv_icmp_le (tgt := 33) hx hb dX9_row_28 (by decide) (fun c45 => ?_) (fun c45 => ?_)
        · replace hw := hw.1 c45
          exact wk_X9_row_L33 hG _ _ _ _ hk hn hZ (lv_sub hl [0, 1, 2, 3] rfl) hw
        · replace hw := hw.2 c45
          exact wk_X9_row_L31 hG _ hk hn hZ (lv_sub hl [] rfl) hw
abbrev rm_X9_same : Room := { frames := 3, cells := 0, slots := 0, locals := 109 }
def wp_X9_same_L14 (D : zD) (post : Int32 → zM → Prop) (o : Nat) (M : zM) : Prop :=
    post (-1 : Int32) M
set_option maxHeartbeats 4000000 in
set_option maxRecDepth 100000 in
theorem wk_X9_same_L14 {p : Program} {l : Launch} {e : Env} {s : State} {m : MethodId} {args : Array Value} {below : List Frame} {meth : Method} {c : Code} {D : zD} {post : Int32 → zM → Prop} {o : Nat} (hG : zGx p l s m args meth c cX9_same 5 "PluralBranchesModel" D (some .int) "same" []) : ∀ {H : Heap} {locs : List Loc} {cells slots : Nat} {ls : Array Slot} (M : zM), cells ≤ 0 → slots ≤ 0 → zS D M H locs → lv_has ls 5 [] → wp_X9_same_L14 D post o M → W p l e rm_X9_same s m args below meth c H locs cells slots (vx_MQ below (zQ D zI post) (zX D (fun _ _ => False)) args s 0 0 (zA D)) (F0 m 14 ls []) := by
  have hC := hG.1
  have hx := hC.x
  have hb := hC.b
  have hown := hC.o
  have hts := hC.ts
  have hlt := hG.2.2.2.2.2
  intro H locs cells slots ls M hk hn hZ hl hw
  refine lv_iconst (v := (-1)) hx hb dX9_same_14 (by decide) ?_
  exact z_iret hG hZ hk hn hw dX9_same_15
def wp_X9_same_L34 (D : zD) (post : Int32 → zM → Prop) (o : Nat) (M : zM) : Prop :=
    post (-2 : Int32) M
set_option maxHeartbeats 4000000 in
set_option maxRecDepth 100000 in
theorem wk_X9_same_L34 {p : Program} {l : Launch} {e : Env} {s : State} {m : MethodId} {args : Array Value} {below : List Frame} {meth : Method} {c : Code} {D : zD} {post : Int32 → zM → Prop} {o : Nat} (hG : zGx p l s m args meth c cX9_same 5 "PluralBranchesModel" D (some .int) "same" []) : ∀ {H : Heap} {locs : List Loc} {cells slots : Nat} {ls : Array Slot} (M : zM), cells ≤ 0 → slots ≤ 0 → zS D M H locs → lv_has ls 5 [] → wp_X9_same_L34 D post o M → W p l e rm_X9_same s m args below meth c H locs cells slots (vx_MQ below (zQ D zI post) (zX D (fun _ _ => False)) args s 0 0 (zA D)) (F0 m 34 ls []) := by
  have hC := hG.1
  have hx := hC.x
  have hb := hC.b
  have hown := hC.o
  have hts := hC.ts
  have hlt := hG.2.2.2.2.2
  intro H locs cells slots ls M hk hn hZ hl hw
  refine lv_bipush (v := (-2)) hx hb dX9_same_34 (by decide) ?_
  exact z_iret hG hZ hk hn hw dX9_same_36
def wp_X9_same_L117 (D : zD) (post : Int32 → zM → Prop) (o : Nat) (y0 : Int32) (M : zM) : Prop :=
    post y0 M
set_option maxHeartbeats 4000000 in
set_option maxRecDepth 100000 in
theorem wk_X9_same_L117 {p : Program} {l : Launch} {e : Env} {s : State} {m : MethodId} {args : Array Value} {below : List Frame} {meth : Method} {c : Code} {D : zD} {post : Int32 → zM → Prop} {o : Nat} (hG : zGx p l s m args meth c cX9_same 5 "PluralBranchesModel" D (some .int) "same" []) : ∀ {H : Heap} {locs : List Loc} {cells slots : Nat} {ls : Array Slot} (y0 : Int32) (M : zM), cells ≤ 0 → slots ≤ 0 → zS D M H locs → lv_has ls 5 [] → wp_X9_same_L117 D post o y0 M → W p l e rm_X9_same s m args below meth c H locs cells slots (vx_MQ below (zQ D zI post) (zX D (fun _ _ => False)) args s 0 0 (zA D)) (F0 m 117 ls [.int y0]) := by
  have hC := hG.1
  have hx := hC.x
  have hb := hC.b
  have hown := hC.o
  have hts := hC.ts
  have hlt := hG.2.2.2.2.2
  intro H locs cells slots ls y0 M hk hn hZ hl hw
  exact z_iret hG hZ hk hn hw dX9_same_117
def wp_X9_same_L101 (D : zD) (post : Int32 → zM → Prop) (o : Nat) (k61 : Int32 → Int32 → Int32 → Int32 → zM → Prop) (x1 : Int32) (x2 : Int32) (x4 : Int32) (y0 : Int32) (M : zM) : Prop :=
    k61 x1 x2 y0 (x4 + 1) M
set_option maxHeartbeats 4000000 in
set_option maxRecDepth 100000 in
theorem wk_X9_same_L101 {p : Program} {l : Launch} {e : Env} {s : State} {m : MethodId} {args : Array Value} {below : List Frame} {meth : Method} {c : Code} {D : zD} {post : Int32 → zM → Prop} {o : Nat} (hG : zGx p l s m args meth c cX9_same 5 "PluralBranchesModel" D (some .int) "same" []) (k61 : Int32 → Int32 → Int32 → Int32 → zM → Prop) (hk61 : ∀ {H : Heap} {locs : List Loc} {cells slots : Nat} {ls : Array Slot} (x1 : Int32) (x2 : Int32) (x3 : Int32) (x4 : Int32) (M : zM), cells ≤ 0 → slots ≤ 0 → zS D M H locs → lv_has ls 5 [(0, .ref o), (1, .int x1), (2, .int x2), (3, .int x3), (4, .int x4)] → k61 x1 x2 x3 x4 M → W p l e rm_X9_same s m args below meth c H locs cells slots (vx_MQ below (zQ D zI post) (zX D (fun _ _ => False)) args s 0 0 (zA D)) (F0 m 61 ls [])) : ∀ {H : Heap} {locs : List Loc} {cells slots : Nat} {ls : Array Slot} (x1 : Int32) (x2 : Int32) (x4 : Int32) (y0 : Int32) (M : zM), cells ≤ 0 → slots ≤ 0 → zS D M H locs → lv_has ls 5 [(0, .ref o), (1, .int x1), (2, .int x2), (4, .int x4)] → wp_X9_same_L101 D post o k61 x1 x2 x4 y0 M → W p l e rm_X9_same s m args below meth c H locs cells slots (vx_MQ below (zQ D zI post) (zX D (fun _ _ => False)) args s 0 0 (zA D)) (F0 m 101 ls [.int y0]) := by
  have hC := hG.1
  have hx := hC.x
  have hb := hC.b
  have hown := hC.o
  have hts := hC.ts
  have hlt := hG.2.2.2.2.2
  intro H locs cells slots ls x1 x2 x4 y0 M hk hn hZ hl hw
  refine lv_istore_n (i := 3) (lv' := [(3, .int y0), (0, .ref o), (1, .int x1), (2, .int x2), (4, .int x4)]) hx hb dX9_same_101 rfl hl (by decide) rfl (fun ls hl1 => ?_)
  replace hl := hl1
  clear hl1
  refine lv_iinc (v := (x4 + 1)) (lv' := [(4, .int (x4 + 1)), (3, .int y0), (0, .ref o), (1, .int x1), (2, .int x2)]) hx hb dX9_same_102 hl (k := 4) rfl rfl (by decide) rfl (fun ls hl1 => ?_)
  replace hl := hl1
  clear hl1
  refine lv_goto (tgt := 61) hx hb dX9_same_105 (by decide) ?_
  exact hk61 _ _ _ _ _ hk hn hZ (lv_sub hl [2, 3, 4, 1, 0] rfl) hw
def wp_X9_same_L100 (D : zD) (post : Int32 → zM → Prop) (o : Nat) (k61 : Int32 → Int32 → Int32 → Int32 → zM → Prop) (x1 : Int32) (x2 : Int32) (x4 : Int32) (M : zM) : Prop :=
    wp_X9_same_L101 D post o k61 x1 x2 x4 (0 : Int32) M
set_option maxHeartbeats 4000000 in
set_option maxRecDepth 100000 in
theorem wk_X9_same_L100 {p : Program} {l : Launch} {e : Env} {s : State} {m : MethodId} {args : Array Value} {below : List Frame} {meth : Method} {c : Code} {D : zD} {post : Int32 → zM → Prop} {o : Nat} (hG : zGx p l s m args meth c cX9_same 5 "PluralBranchesModel" D (some .int) "same" []) (k61 : Int32 → Int32 → Int32 → Int32 → zM → Prop) (hk61 : ∀ {H : Heap} {locs : List Loc} {cells slots : Nat} {ls : Array Slot} (x1 : Int32) (x2 : Int32) (x3 : Int32) (x4 : Int32) (M : zM), cells ≤ 0 → slots ≤ 0 → zS D M H locs → lv_has ls 5 [(0, .ref o), (1, .int x1), (2, .int x2), (3, .int x3), (4, .int x4)] → k61 x1 x2 x3 x4 M → W p l e rm_X9_same s m args below meth c H locs cells slots (vx_MQ below (zQ D zI post) (zX D (fun _ _ => False)) args s 0 0 (zA D)) (F0 m 61 ls [])) : ∀ {H : Heap} {locs : List Loc} {cells slots : Nat} {ls : Array Slot} (x1 : Int32) (x2 : Int32) (x4 : Int32) (M : zM), cells ≤ 0 → slots ≤ 0 → zS D M H locs → lv_has ls 5 [(0, .ref o), (1, .int x1), (2, .int x2), (4, .int x4)] → wp_X9_same_L100 D post o k61 x1 x2 x4 M → W p l e rm_X9_same s m args below meth c H locs cells slots (vx_MQ below (zQ D zI post) (zX D (fun _ _ => False)) args s 0 0 (zA D)) (F0 m 100 ls []) := by
  have hC := hG.1
  have hx := hC.x
  have hb := hC.b
  have hown := hC.o
  have hts := hC.ts
  have hlt := hG.2.2.2.2.2
  intro H locs cells slots ls x1 x2 x4 M hk hn hZ hl hw
  refine lv_iconst (v := 0) hx hb dX9_same_100 (by decide) ?_
  exact wk_X9_same_L101 hG k61 hk61 _ _ _ _ _ hk hn hZ (lv_sub hl [0, 1, 2, 3] rfl) hw
def wp_X9_same_L61 (D : zD) (post : Int32 → zM → Prop) (o : Nat) : Nat → Int32 → Int32 → Int32 → Int32 → zM → Prop
  | 0 => fun _ _ _ _ _ => False
  | f + 1 => fun x1 x2 x3 x4 M =>
    (((5 : Int32) ≤ x4 → ((x3 = 0 → wp_X9_same_L117 D post o (0 : Int32) M) ∧ (¬ x3 = 0 → wp_X9_same_L117 D post o (1 : Int32) M))) ∧ (¬ (5 : Int32) ≤ x4 → ((x3 = 0 → wp_X9_same_L100 D post o (wp_X9_same_L61 D post o f) x1 x2 x4 M) ∧ (¬ x3 = 0 → (zgR M o 8 15 fun g2 => ((zd g2 fun b3 => zaI M b3 0 (((5 : Int32) * x1) + x4) fun v4 => (zgR M o 8 15 fun g5 => ((zd g5 fun b6 => zaI M b6 0 (((5 : Int32) * x2) + x4) fun v7 => ((¬ v4 = v7 → wp_X9_same_L100 D post o (wp_X9_same_L61 D post o f) x1 x2 x4 M) ∧ (v4 = v7 → wp_X9_same_L101 D post o (wp_X9_same_L61 D post o f) x1 x2 x4 (1 : Int32) M))))))))))))
set_option maxHeartbeats 4000000 in
set_option maxRecDepth 100000 in
theorem wk_X9_same_L61 {p : Program} {l : Launch} {e : Env} {s : State} {m : MethodId} {args : Array Value} {below : List Frame} {meth : Method} {c : Code} {D : zD} {post : Int32 → zM → Prop} {o : Nat} (hG : zGx p l s m args meth c cX9_same 5 "PluralBranchesModel" D (some .int) "same" []) : ∀ (f : Nat), ∀ {H : Heap} {locs : List Loc} {cells slots : Nat} {ls : Array Slot} (x1 : Int32) (x2 : Int32) (x3 : Int32) (x4 : Int32) (M : zM), cells ≤ 0 → slots ≤ 0 → zS D M H locs → lv_has ls 5 [(0, .ref o), (1, .int x1), (2, .int x2), (3, .int x3), (4, .int x4)] → wp_X9_same_L61 D post o f x1 x2 x3 x4 M → W p l e rm_X9_same s m args below meth c H locs cells slots (vx_MQ below (zQ D zI post) (zX D (fun _ _ => False)) args s 0 0 (zA D)) (F0 m 61 ls []) := by
  have hC := hG.1
  have hx := hC.x
  have hb := hC.b
  have hown := hC.o
  have hts := hC.ts
  have hlt := hG.2.2.2.2.2
  intro f
  induction f with
  | zero =>
    intro H locs cells slots ls x1 x2 x3 x4 M hk hn hZ hl hw
    exact absurd hw (fun h => h)
  | succ f ih =>
    intro H locs cells slots ls x1 x2 x3 x4 M hk hn hZ hl hw
    refine lv_iload hx hb dX9_same_61 (lv_at hl 4 rfl) ?_
    refine lv_iconst (v := 5) hx hb dX9_same_63 (by decide) ?_
    refine lv_icmp_ge (tgt := 108) hx hb dX9_same_64 (by decide) (fun c20 => ?_) (fun c20 => ?_)
    · replace hw := hw.1 c20
      refine lv_iload_n hx hb dX9_same_108 rfl (lv_at hl 3 rfl) ?_
      refine lv_if_eq (tgt := 116) hx hb dX9_same_109 (by decide) (fun c11 => ?_) (fun c11 => ?_)
      · replace hw := hw.1 c11
        refine lv_iconst (v := 0) hx hb dX9_same_116 (by decide) ?_
        exact wk_X9_same_L117 hG _ _ hk hn hZ (lv_sub hl [] rfl) hw
      · replace hw := hw.2 c11
        refine lv_iconst (v := 1) hx hb dX9_same_112 (by decide) ?_
        refine lv_goto (tgt := 117) hx hb dX9_same_113 (by decide) ?_
        exact wk_X9_same_L117 hG _ _ hk hn hZ (lv_sub hl [] rfl) hw
    · replace hw := hw.2 c20
      refine lv_iload_n hx hb dX9_same_67 rfl (lv_at hl 3 rfl) ?_
      refine lv_if_eq (tgt := 100) hx hb dX9_same_68 (by decide) (fun c19 => ?_) (fun c19 => ?_)
      · replace hw := hw.1 c19
        exact wk_X9_same_L100 hG _ (fun {_ _ _ _ _} _z0 _z1 _z2 _z3 _z4 h1 h2 h3 h4 h5 => ih _z0 _z1 _z2 _z3 _z4 h1 h2 h3 h4 h5) _ _ _ _ hk hn hZ (lv_sub hl [0, 1, 2, 4] rfl) hw
      · replace hw := hw.2 c19
        refine lv_aload_n hx hb dX9_same_71 rfl (lv_at hl 0 rfl) ?_
        obtain ⟨fs0, g12, hM0, hx0, hw⟩ := hw
        refine z_get hC hZ hM0 zc8 15 (by decide) q1735 (fun _ h9 => h9) hx0 dX9_same_72 ?_
        refine lv_iconst (v := 5) hx hb dX9_same_75 (by decide) ?_
        refine lv_iload_n hx hb dX9_same_76 rfl (lv_at hl 1 rfl) ?_
        refine lv_imul hx hb dX9_same_77 ?_
        refine lv_iload hx hb dX9_same_78 (lv_at hl 4 rfl) ?_
        refine lv_iadd hx hb dX9_same_80 ?_
        obtain ⟨b13, hr0, hw⟩ := hw
        subst hr0
        obtain ⟨n0, f0, hM0, hi0, hw⟩ := hw
        refine z_iald hC hZ hM0 hi0 dX9_same_81 ?_
        generalize f0 _ = v14 at hw ⊢
        refine lv_aload_n hx hb dX9_same_82 rfl (lv_at hl 0 rfl) ?_
        obtain ⟨fs0, g15, hM0, hx0, hw⟩ := hw
        refine z_get hC hZ hM0 zc8 15 (by decide) q1735 (fun _ h9 => h9) hx0 dX9_same_83 ?_
        refine lv_iconst (v := 5) hx hb dX9_same_86 (by decide) ?_
        refine lv_iload_n hx hb dX9_same_87 rfl (lv_at hl 2 rfl) ?_
        refine lv_imul hx hb dX9_same_88 ?_
        refine lv_iload hx hb dX9_same_89 (lv_at hl 4 rfl) ?_
        refine lv_iadd hx hb dX9_same_91 ?_
        obtain ⟨b16, hr0, hw⟩ := hw
        subst hr0
        obtain ⟨n0, f0, hM0, hi0, hw⟩ := hw
        refine z_iald hC hZ hM0 hi0 dX9_same_92 ?_
        generalize f0 _ = v17 at hw ⊢
        refine lv_icmp_ne (tgt := 100) hx hb dX9_same_93 (by decide) (fun c18 => ?_) (fun c18 => ?_)
        · replace hw := hw.1 c18
          exact wk_X9_same_L100 hG _ (fun {_ _ _ _ _} _z0 _z1 _z2 _z3 _z4 h1 h2 h3 h4 h5 => ih _z0 _z1 _z2 _z3 _z4 h1 h2 h3 h4 h5) _ _ _ _ hk hn hZ (lv_sub hl [0, 1, 2, 4] rfl) hw
        · replace hw := hw.2 c18
          refine lv_iconst (v := 1) hx hb dX9_same_96 (by decide) ?_
          refine lv_goto (tgt := 101) hx hb dX9_same_97 (by decide) ?_
          exact wk_X9_same_L101 hG _ (fun {_ _ _ _ _} _z0 _z1 _z2 _z3 _z4 h1 h2 h3 h4 h5 => ih _z0 _z1 _z2 _z3 _z4 h1 h2 h3 h4 h5) _ _ _ _ _ hk hn hZ (lv_sub hl [0, 1, 2, 4] rfl) hw
def wp_X9_same_L57 (D : zD) (post : Int32 → zM → Prop) (o : Nat) (x1 : Int32) (x2 : Int32) (y0 : Int32) (M : zM) : Prop :=
    (∃ f, wp_X9_same_L61 D post o f x1 x2 y0 (0 : Int32) M)
set_option maxHeartbeats 4000000 in
set_option maxRecDepth 100000 in
theorem wk_X9_same_L57 {p : Program} {l : Launch} {e : Env} {s : State} {m : MethodId} {args : Array Value} {below : List Frame} {meth : Method} {c : Code} {D : zD} {post : Int32 → zM → Prop} {o : Nat} (hG : zGx p l s m args meth c cX9_same 5 "PluralBranchesModel" D (some .int) "same" []) : ∀ {H : Heap} {locs : List Loc} {cells slots : Nat} {ls : Array Slot} (x1 : Int32) (x2 : Int32) (y0 : Int32) (M : zM), cells ≤ 0 → slots ≤ 0 → zS D M H locs → lv_has ls 5 [(0, .ref o), (1, .int x1), (2, .int x2)] → wp_X9_same_L57 D post o x1 x2 y0 M → W p l e rm_X9_same s m args below meth c H locs cells slots (vx_MQ below (zQ D zI post) (zX D (fun _ _ => False)) args s 0 0 (zA D)) (F0 m 57 ls [.int y0]) := by
  have hC := hG.1
  have hx := hC.x
  have hb := hC.b
  have hown := hC.o
  have hts := hC.ts
  have hlt := hG.2.2.2.2.2
  intro H locs cells slots ls x1 x2 y0 M hk hn hZ hl hw
  refine lv_istore_n (i := 3) (lv' := [(3, .int y0), (0, .ref o), (1, .int x1), (2, .int x2)]) hx hb dX9_same_57 rfl hl (by decide) rfl (fun ls hl1 => ?_)
  replace hl := hl1
  clear hl1
  refine lv_iconst (v := 0) hx hb dX9_same_58 (by decide) ?_
  refine lv_istore (i := 4) (lv' := [(4, .int (0 : Int32)), (3, .int y0), (0, .ref o), (1, .int x1), (2, .int x2)]) hx hb dX9_same_59 hl (by decide) rfl (fun ls hl1 => ?_)
  replace hl := hl1
  clear hl1
  obtain ⟨f1, hw⟩ := hw
  exact wk_X9_same_L61 hG f1 _ _ _ _ _ hk hn hZ (lv_sub hl [2, 3, 4, 1, 0] rfl) hw
def wp_X9_same (D : zD) (post : Int32 → zM → Prop) (o : Nat) (a0 : Int32) (a1 : Int32) (M : zM) : Prop :=
    (wp_X9_isSlot D (fun r21 M => ((r21 = 0 → wp_X9_same_L14 D post o M) ∧ (¬ r21 = 0 → (wp_X9_isSlot D (fun r24 M => ((¬ r24 = 0 → (zgR M o 8 9 fun g27 => ((zd g27 fun b28 => zaI M b28 0 a0 fun v29 => ((v29 < 0 → wp_X9_same_L34 D post o M) ∧ (¬ v29 < 0 → (zgR M o 8 9 fun g30 => ((zd g30 fun b31 => zaI M b31 0 a1 fun v32 => ((0 ≤ v32 → (zgR M o 8 14 fun g33 => ((zd g33 fun b34 => zaI M b34 0 a0 fun v35 => (zgR M o 8 14 fun g36 => ((zd g36 fun b37 => zaI M b37 0 a1 fun v38 => ((¬ v35 = v38 → wp_X9_same_L57 D post o a0 a1 (0 : Int32) M) ∧ (v35 = v38 → wp_X9_same_L57 D post o a0 a1 (1 : Int32) M))))))))) ∧ (¬ 0 ≤ v32 → wp_X9_same_L34 D post o M))))))))))) ∧ (r24 = 0 → wp_X9_same_L14 D post o M))) a1 M)))) a0 M)
set_option maxHeartbeats 4000000 in
set_option maxRecDepth 100000 in
theorem w_X9_same {l : Launch} {D : zD} {post : Int32 → zM → Prop} (hlt : l.stackTraces = false) {o : Nat} {a0 : Int32} {a1 : Int32} {M : zM} (hw : wp_X9_same D post o a0 a1 M) : zMet l D yX9_same (ws_ yX9_same cX9_same 5 (some .int)) rm_X9_same 0 0 [.ref o, .int a0, .int a1] M zI post (fun _ _ => False) := by
  unfold wp_X9_same at hw
  have hlv : lv_args 0 [.ref o, .int a0, .int a1] = [(0, .ref o), (1, .int a0), (2, .int a1)] := (zargs1 rfl (zargs1 rfl (zargs1 rfl rfl)))
  refine z_ofW hlt (by decide) (Nat.le_trans (zsl1 rfl (zsl1 rfl (zsl1 rfl (Nat.le_refl 0 : (lg_sl []).length ≤ 0)))) (Nat.le_of_ble_eq_true rfl)) hlv ?_
  intro p e s m args below meth c ls hG hZ hl
  have hC := hG.1
  have hx := hC.x
  have hb := hC.b
  have hown := hC.o
  have hts := hC.ts
  have hlt := hG.2.2.2.2.2
  obtain ⟨cells, hce⟩ : ∃ z : Nat, z = 0 := ⟨0, rfl⟩
  obtain ⟨slots, hsl⟩ : ∃ z : Nat, z = 0 := ⟨0, rfl⟩
  refine W.cs (cells' := cells) (slots' := slots) hce.symm hsl.symm ?_
  have hk : cells ≤ 0 := Nat.le_of_eq hce
  have hn : slots ≤ 0 := Nat.le_of_eq hsl
  clear hce hsl
  refine lv_iload_n hx hb dX9_same_0 rfl (lv_at hl 1 rfl) ?_
  refine z_callI hZ (vx_runS (As := [.int a0]) (rest := []) hC.fix (w_X9_isSlot hlt hw) (va_cwS 1 hts (lw_S q1963 q1964 q83 q1965) rfl rfl rfl dd_X9_isSlot ⟨Nat.le_of_ble_eq_true rfl, Nat.le_of_ble_eq_true rfl⟩) (z_preS hC hZ) rfl rfl hl.1 rfl (lv_room (Nat.zero_le _)) dX9_same_1 ⟨hk, hn⟩) (fun r44 M H locs hw1 hZ => ?_) (fun q M H locs ci fs E T9 N9 hw hZ hc1 hM1 hb1 => False.elim hw)
  replace hw := hw1
  clear hw1
  refine W.cs (cells' := cells) (slots' := slots) rfl rfl ?_
  refine lv_if_eq (tgt := 14) hx hb dX9_same_4 (by decide) (fun c66 => ?_) (fun c66 => ?_)
  · replace hw := hw.1 c66
    exact wk_X9_same_L14 hG _ hk hn hZ (lv_sub hl [] rfl) hw
  · replace hw := hw.2 c66
    refine lv_iload_n hx hb dX9_same_7 rfl (lv_at hl 2 rfl) ?_
    refine z_callI hZ (vx_runS (As := [.int a1]) (rest := []) hC.fix (w_X9_isSlot hlt hw) (va_cwS 1 hts (lw_S q1963 q1964 q83 q1965) rfl rfl rfl dd_X9_isSlot ⟨Nat.le_of_ble_eq_true rfl, Nat.le_of_ble_eq_true rfl⟩) (z_preS hC hZ) rfl rfl hl.1 rfl (lv_room (Nat.zero_le _)) dX9_same_8 ⟨hk, hn⟩) (fun r47 M H locs hw1 hZ => ?_) (fun q M H locs ci fs E T9 N9 hw hZ hc1 hM1 hb1 => False.elim hw)
    replace hw := hw1
    clear hw1
    refine W.cs (cells' := cells) (slots' := slots) rfl rfl ?_
    refine lv_if_ne (tgt := 16) hx hb dX9_same_11 (by decide) (fun c65 => ?_) (fun c65 => ?_)
    · replace hw := hw.1 c65
      refine lv_aload_n hx hb dX9_same_16 rfl (lv_at hl 0 rfl) ?_
      obtain ⟨fs0, g50, hM0, hx0, hw⟩ := hw
      refine z_get hC hZ hM0 zc8 9 (by decide) q1729 (fun _ h9 => h9) hx0 dX9_same_17 ?_
      refine lv_iload_n hx hb dX9_same_20 rfl (lv_at hl 1 rfl) ?_
      obtain ⟨b51, hr0, hw⟩ := hw
      subst hr0
      obtain ⟨n0, f0, hM0, hi0, hw⟩ := hw
      refine z_iald hC hZ hM0 hi0 dX9_same_21 ?_
      generalize f0 _ = v52 at hw ⊢
      refine lv_if_lt (tgt := 34) hx hb dX9_same_22 (by decide) (fun c64 => ?_) (fun c64 => ?_)
      · replace hw := hw.1 c64
        exact wk_X9_same_L34 hG _ hk hn hZ (lv_sub hl [] rfl) hw
      · replace hw := hw.2 c64
        refine lv_aload_n hx hb dX9_same_25 rfl (lv_at hl 0 rfl) ?_
        obtain ⟨fs0, g53, hM0, hx0, hw⟩ := hw
        refine z_get hC hZ hM0 zc8 9 (by decide) q1729 (fun _ h9 => h9) hx0 dX9_same_26 ?_
        refine lv_iload_n hx hb dX9_same_29 rfl (lv_at hl 2 rfl) ?_
        obtain ⟨b54, hr0, hw⟩ := hw
        subst hr0
        obtain ⟨n0, f0, hM0, hi0, hw⟩ := hw
        refine z_iald hC hZ hM0 hi0 dX9_same_30 ?_
        generalize f0 _ = v55 at hw ⊢
        refine lv_if_ge (tgt := 37) hx hb dX9_same_31 (by decide) (fun c63 => ?_) (fun c63 => ?_)
        · replace hw := hw.1 c63
          refine lv_aload_n hx hb dX9_same_37 rfl (lv_at hl 0 rfl) ?_
          obtain ⟨fs0, g56, hM0, hx0, hw⟩ := hw
          refine z_get hC hZ hM0 zc8 14 (by decide) q1734 (fun _ h9 => h9) hx0 dX9_same_38 ?_
          refine lv_iload_n hx hb dX9_same_41 rfl (lv_at hl 1 rfl) ?_
          obtain ⟨b57, hr0, hw⟩ := hw
          subst hr0
          obtain ⟨n0, f0, hM0, hi0, hw⟩ := hw
          refine z_iald hC hZ hM0 hi0 dX9_same_42 ?_
          generalize f0 _ = v58 at hw ⊢
          refine lv_aload_n hx hb dX9_same_43 rfl (lv_at hl 0 rfl) ?_
          obtain ⟨fs0, g59, hM0, hx0, hw⟩ := hw
          refine z_get hC hZ hM0 zc8 14 (by decide) q1734 (fun _ h9 => h9) hx0 dX9_same_44 ?_
          refine lv_iload_n hx hb dX9_same_47 rfl (lv_at hl 2 rfl) ?_
          obtain ⟨b60, hr0, hw⟩ := hw
          subst hr0
          obtain ⟨n0, f0, hM0, hi0, hw⟩ := hw
          refine z_iald hC hZ hM0 hi0 dX9_same_48 ?_
          generalize f0 _ = v61 at hw ⊢
          refine lv_icmp_ne (tgt := 56) hx hb dX9_same_49 (by decide) (fun c62 => ?_) (fun c62 => ?_)
          · replace hw := hw.1 c62
            refine lv_iconst (v := 0) hx hb dX9_same_56 (by decide) ?_
            exact wk_X9_same_L57 hG _ _ _ _ hk hn hZ (lv_sub hl [0, 1, 2] rfl) hw
          · replace hw := hw.2 c62
            refine lv_iconst (v := 1) hx hb dX9_same_52 (by decide) ?_
            refine lv_goto (tgt := 57) hx hb dX9_same_53 (by decide) ?_
            exact wk_X9_same_L57 hG _ _ _ _ hk hn hZ (lv_sub hl [0, 1, 2] rfl) hw
        · replace hw := hw.2 c63
          exact wk_X9_same_L34 hG _ hk hn hZ (lv_sub hl [] rfl) hw
    · replace hw := hw.2 c65
      exact wk_X9_same_L14 hG _ hk hn hZ (lv_sub hl [] rfl) hw
abbrev rm_X9_writes : Room := { frames := 1, cells := 0, slots := 0, locals := 64 }
def wp_X9_writes (D : zD) (post : Unit → zM → Prop) (o : Nat) (a0 : Int32) (M : zM) : Prop :=
    (zgR M o 8 47 fun g1 => (zgI M o 8 48 fun g2 => ((zd g1 fun b3 => zsI D M b3 g2 a0 fun M => (zgI M o 8 48 fun g4 => (zp D M o 8 48 (.int (g4 + (1 : Int32))) fun M => post () M))))))
set_option maxHeartbeats 4000000 in
set_option maxRecDepth 100000 in
theorem w_X9_writes {l : Launch} {D : zD} {post : Unit → zM → Prop} (hlt : l.stackTraces = false) {o : Nat} {a0 : Int32} {M : zM} (hw : wp_X9_writes D post o a0 M) : zMet l D yX9_writes (ws_ yX9_writes cX9_writes 2 (none)) rm_X9_writes 0 0 [.ref o, .int a0] M zU post (fun _ _ => False) := by
  unfold wp_X9_writes at hw
  have hlv : lv_args 0 [.ref o, .int a0] = [(0, .ref o), (1, .int a0)] := (zargs1 rfl (zargs1 rfl rfl))
  refine z_ofW hlt (by decide) (Nat.le_trans (zsl1 rfl (zsl1 rfl (Nat.le_refl 0 : (lg_sl []).length ≤ 0))) (Nat.le_of_ble_eq_true rfl)) hlv ?_
  intro p e s m args below meth c ls hG hZ hl
  have hC := hG.1
  have hx := hC.x
  have hb := hC.b
  have hown := hC.o
  have hts := hC.ts
  have hlt := hG.2.2.2.2.2
  obtain ⟨cells, hce⟩ : ∃ z : Nat, z = 0 := ⟨0, rfl⟩
  obtain ⟨slots, hsl⟩ : ∃ z : Nat, z = 0 := ⟨0, rfl⟩
  refine W.cs (cells' := cells) (slots' := slots) hce.symm hsl.symm ?_
  have hk : cells ≤ 0 := Nat.le_of_eq hce
  have hn : slots ≤ 0 := Nat.le_of_eq hsl
  clear hce hsl
  refine lv_aload_n hx hb dX9_writes_0 rfl (lv_at hl 0 rfl) ?_
  obtain ⟨fs0, g6, hM0, hx0, hw⟩ := hw
  refine z_get hC hZ hM0 zc8 47 (by decide) q1767 (fun _ h9 => h9) hx0 dX9_writes_1 ?_
  refine lv_aload_n hx hb dX9_writes_4 rfl (lv_at hl 0 rfl) ?_
  obtain ⟨fs0, g7, hM0, hx0, hw⟩ := hw
  refine z_get hC hZ hM0 zc8 48 (by decide) q1768 (fun _ h9 => h9) hx0 dX9_writes_5 ?_
  refine lv_iload_n hx hb dX9_writes_8 rfl (lv_at hl 1 rfl) ?_
  obtain ⟨b8, hr0, hw⟩ := hw
  subst hr0
  obtain ⟨n0, f0, hM0, hb0, hi0, hw⟩ := hw
  refine z_iast hC hZ hM0 hb0 hi0 dX9_writes_9 (fun H locs hZ => ?_)
  generalize zu M _ _ = M at hw hZ
  refine lv_aload_n hx hb dX9_writes_10 rfl (lv_at hl 0 rfl) ?_
  refine lv_dup hx hb dX9_writes_11 rfl ?_
  obtain ⟨fs0, g9, hM0, hx0, hw⟩ := hw
  refine z_get hC hZ hM0 zc8 48 (by decide) q1768 (fun _ h9 => h9) hx0 dX9_writes_12 ?_
  refine lv_iconst (v := 1) hx hb dX9_writes_15 (by decide) ?_
  refine lv_iadd hx hb dX9_writes_16 ?_
  obtain ⟨fs0, hM0, hb0, hk0, hw⟩ := hw
  refine z_put hC hZ hM0 hb0 zc8 48 (by decide) q1768 (fun _ h9 => h9) (by decide) rfl rfl hk0 dX9_writes_17 (fun H locs hZ => ?_)
  generalize zu M _ _ = M at hw hZ
  exact z_vret hG hZ hk hn hw dX9_writes_20
abbrev rm_X9_writesDigits : Room := { frames := 2, cells := 0, slots := 0, locals := 85 }
def wp_X9_writesDigits_L23 (D : zD) (post : Unit → zM → Prop) (o : Nat) (k6 : Int64 → Int32 → Int64 → Int32 → zM → Prop) (x1 : Int64) (x3 : Int32) (x4 : Int64) (x6 : Int32) (M : zM) : Prop :=
    k6 x1 x3 (x4 * (10 : Int64)) (x6 + 1) M
set_option maxHeartbeats 4000000 in
set_option maxRecDepth 100000 in
theorem wk_X9_writesDigits_L23 {p : Program} {l : Launch} {e : Env} {s : State} {m : MethodId} {args : Array Value} {below : List Frame} {meth : Method} {c : Code} {D : zD} {post : Unit → zM → Prop} {o : Nat} (hG : zGx p l s m args meth c cX9_writesDigits 7 "PluralBranchesModel" D (none) "writesDigits" []) (k6 : Int64 → Int32 → Int64 → Int32 → zM → Prop) (hk6 : ∀ {H : Heap} {locs : List Loc} {cells slots : Nat} {ls : Array Slot} (x1 : Int64) (x3 : Int32) (x4 : Int64) (x6 : Int32) (M : zM), cells ≤ 0 → slots ≤ 0 → zS D M H locs → lv_has ls 7 [(0, .ref o), (1, .long x1), (3, .int x3), (4, .long x4), (6, .int x6)] → k6 x1 x3 x4 x6 M → W p l e rm_X9_writesDigits s m args below meth c H locs cells slots (vx_MQ below (zQ D zU post) (zX D (fun _ _ => False)) args s 0 0 (zA D)) (F0 m 6 ls [])) : ∀ {H : Heap} {locs : List Loc} {cells slots : Nat} {ls : Array Slot} (x1 : Int64) (x3 : Int32) (x4 : Int64) (x6 : Int32) (M : zM), cells ≤ 0 → slots ≤ 0 → zS D M H locs → lv_has ls 7 [(0, .ref o), (1, .long x1), (3, .int x3), (4, .long x4), (6, .int x6)] → wp_X9_writesDigits_L23 D post o k6 x1 x3 x4 x6 M → W p l e rm_X9_writesDigits s m args below meth c H locs cells slots (vx_MQ below (zQ D zU post) (zX D (fun _ _ => False)) args s 0 0 (zA D)) (F0 m 23 ls []) := by
  have hC := hG.1
  have hx := hC.x
  have hb := hC.b
  have hown := hC.o
  have hts := hC.ts
  have hlt := hG.2.2.2.2.2
  intro H locs cells slots ls x1 x3 x4 x6 M hk hn hZ hl hw
  refine lv_lload hx hb dX9_writesDigits_23 (lv_at hl 3 rfl) ?_
  refine lv_ldc2 hx hb hown (hts _ q1904) dX9_writesDigits_25 ?_
  refine lv_lmul hx hb dX9_writesDigits_28 ?_
  refine lv_lstore (i := 4) (lv' := [(4, .long (x4 * (10 : Int64))), (0, .ref o), (1, .long x1), (3, .int x3), (6, .int x6)]) hx hb dX9_writesDigits_29 hl (by decide) rfl (fun ls hl1 => ?_)
  replace hl := hl1
  clear hl1
  refine lv_iinc (v := (x6 + 1)) (lv' := [(6, .int (x6 + 1)), (4, .long (x4 * (10 : Int64))), (0, .ref o), (1, .long x1), (3, .int x3)]) hx hb dX9_writesDigits_31 hl (k := 4) rfl rfl (by decide) rfl (fun ls hl1 => ?_)
  replace hl := hl1
  clear hl1
  refine lv_goto (tgt := 6) hx hb dX9_writesDigits_34 (by decide) ?_
  exact hk6 _ _ _ _ _ hk hn hZ (lv_sub hl [2, 3, 4, 1, 0] rfl) hw
def wp_X9_writesDigits_L37 (D : zD) (post : Unit → zM → Prop) (o : Nat) : Nat → Int64 → Int64 → zM → Prop
  | 0 => fun _ _ _ => False
  | f + 1 => fun x1 x4 M =>
    (((lg_cmp x4 (0 : Int64)) ≤ 0 → post () M) ∧ (¬ (lg_cmp x4 (0 : Int64)) ≤ 0 → (¬ x4 = 0 ∧ ((zis M o [8] ∧ wp_X9_writes D (fun _ M => wp_X9_writesDigits_L37 D post o f x1 (x4 / (10 : Int64)) M) o (((48 : Int64) + ((x1 / x4) - (x1 / x4) / (10 : Int64) * (10 : Int64))).toInt32) M)))))
set_option maxHeartbeats 4000000 in
set_option maxRecDepth 100000 in
theorem wk_X9_writesDigits_L37 {p : Program} {l : Launch} {e : Env} {s : State} {m : MethodId} {args : Array Value} {below : List Frame} {meth : Method} {c : Code} {D : zD} {post : Unit → zM → Prop} {o : Nat} (hG : zGx p l s m args meth c cX9_writesDigits 7 "PluralBranchesModel" D (none) "writesDigits" []) : ∀ (f : Nat), ∀ {H : Heap} {locs : List Loc} {cells slots : Nat} {ls : Array Slot} (x1 : Int64) (x4 : Int64) (M : zM), cells ≤ 0 → slots ≤ 0 → zS D M H locs → lv_has ls 7 [(0, .ref o), (1, .long x1), (4, .long x4)] → wp_X9_writesDigits_L37 D post o f x1 x4 M → W p l e rm_X9_writesDigits s m args below meth c H locs cells slots (vx_MQ below (zQ D zU post) (zX D (fun _ _ => False)) args s 0 0 (zA D)) (F0 m 37 ls []) := by
  have hC := hG.1
  have hx := hC.x
  have hb := hC.b
  have hown := hC.o
  have hts := hC.ts
  have hlt := hG.2.2.2.2.2
  intro f
  induction f with
  | zero =>
    intro H locs cells slots ls x1 x4 M hk hn hZ hl hw
    exact absurd hw (fun h => h)
  | succ f ih =>
    intro H locs cells slots ls x1 x4 M hk hn hZ hl hw
    refine lv_lload hx hb dX9_writesDigits_37 (lv_at hl 2 rfl) ?_
    refine lv_lconst (v := 0) hx hb dX9_writesDigits_39 (by decide) ?_
    refine W.lcmp hx hb dX9_writesDigits_40 ?_
    refine lv_if_le (tgt := 72) hx hb dX9_writesDigits_41 (by decide) (fun c8 => ?_) (fun c8 => ?_)
    · replace hw := hw.1 c8
      exact z_vret hG hZ hk hn hw dX9_writesDigits_72
    · replace hw := hw.2 c8
      refine lv_aload_n hx hb dX9_writesDigits_44 rfl (lv_at hl 0 rfl) ?_
      refine lv_ldc2 hx hb hown (hts _ q2016) dX9_writesDigits_45 ?_
      refine lv_lload_n hx hb dX9_writesDigits_48 rfl (lv_at hl 1 rfl) ?_
      refine lv_lload hx hb dX9_writesDigits_49 (lv_at hl 2 rfl) ?_
      obtain ⟨hz0, hw⟩ := hw
      refine lv_ldiv hx hb dX9_writesDigits_51 hz0 ?_
      refine lv_ldc2 hx hb hown (hts _ q1904) dX9_writesDigits_52 ?_
      refine lv_lrem hx hb dX9_writesDigits_55 (by decide) ?_
      refine lv_ladd hx hb dX9_writesDigits_56 ?_
      refine lv_l2i hx hb dX9_writesDigits_57 rfl ?_
      obtain ⟨⟨ci0, fs0, hci0, hM0⟩, hw⟩ := hw
      obtain rfl : ci0 = 8 := List.mem_singleton.mp hci0
      refine z_callU hZ (vx_runV (As := [.int (((48 : Int64) + ((x1 / x4) - (x1 / x4) / (10 : Int64) * (10 : Int64))).toInt32)]) (rest := []) hC.fix (w_X9_writes hlt hw) (cwV 1 hts (lw_V q2137 q2139 qs53 q83 q2140) rfl rfl rfl ⟨rfl, dd_X9_writes⟩ ⟨Nat.le_of_ble_eq_true rfl, Nat.le_of_ble_eq_true rfl⟩) (z_preV hC hZ hM0 zc8) rfl rfl hl.1 rfl (lv_room (Nat.zero_le _)) dX9_writesDigits_58 ⟨hk, hn⟩) (fun r5 M H locs hw1 hZ => ?_) (fun q M H locs ci fs E T9 N9 hw hZ hc1 hM1 hb1 => False.elim hw)
      replace hw := hw1
      clear hw1
      refine W.cs (cells' := cells) (slots' := slots) rfl rfl ?_
      refine lv_lload hx hb dX9_writesDigits_61 (lv_at hl 2 rfl) ?_
      refine lv_ldc2 hx hb hown (hts _ q1904) dX9_writesDigits_63 ?_
      refine lv_ldiv hx hb dX9_writesDigits_66 (by decide) ?_
      refine lv_lstore (i := 4) (lv' := [(4, .long (x4 / (10 : Int64))), (0, .ref o), (1, .long x1)]) hx hb dX9_writesDigits_67 hl (by decide) rfl (fun ls hl1 => ?_)
      replace hl := hl1
      clear hl1
      refine lv_goto (tgt := 37) hx hb dX9_writesDigits_69 (by decide) ?_
      exact ih _ _ _ hk hn hZ (lv_sub hl [1, 2, 0] rfl) hw
def wp_X9_writesDigits_L6 (D : zD) (post : Unit → zM → Prop) (o : Nat) : Nat → Int64 → Int32 → Int64 → Int32 → zM → Prop
  | 0 => fun _ _ _ _ _ => False
  | f + 1 => fun x1 x3 x4 x6 M =>
    ((x6 < x3 → wp_X9_writesDigits_L23 D post o (wp_X9_writesDigits_L6 D post o f) x1 x3 x4 x6 M) ∧ (¬ x6 < x3 → (¬ x4 = 0 ∧ (((lg_cmp (x1 / x4) (9 : Int64)) ≤ 0 → (∃ f, wp_X9_writesDigits_L37 D post o f x1 x4 M)) ∧ (¬ (lg_cmp (x1 / x4) (9 : Int64)) ≤ 0 → wp_X9_writesDigits_L23 D post o (wp_X9_writesDigits_L6 D post o f) x1 x3 x4 x6 M)))))
set_option maxHeartbeats 4000000 in
set_option maxRecDepth 100000 in
theorem wk_X9_writesDigits_L6 {p : Program} {l : Launch} {e : Env} {s : State} {m : MethodId} {args : Array Value} {below : List Frame} {meth : Method} {c : Code} {D : zD} {post : Unit → zM → Prop} {o : Nat} (hG : zGx p l s m args meth c cX9_writesDigits 7 "PluralBranchesModel" D (none) "writesDigits" []) : ∀ (f : Nat), ∀ {H : Heap} {locs : List Loc} {cells slots : Nat} {ls : Array Slot} (x1 : Int64) (x3 : Int32) (x4 : Int64) (x6 : Int32) (M : zM), cells ≤ 0 → slots ≤ 0 → zS D M H locs → lv_has ls 7 [(0, .ref o), (1, .long x1), (3, .int x3), (4, .long x4), (6, .int x6)] → wp_X9_writesDigits_L6 D post o f x1 x3 x4 x6 M → W p l e rm_X9_writesDigits s m args below meth c H locs cells slots (vx_MQ below (zQ D zU post) (zX D (fun _ _ => False)) args s 0 0 (zA D)) (F0 m 6 ls []) := by
  have hC := hG.1
  have hx := hC.x
  have hb := hC.b
  have hown := hC.o
  have hts := hC.ts
  have hlt := hG.2.2.2.2.2
  intro f
  induction f with
  | zero =>
    intro H locs cells slots ls x1 x3 x4 x6 M hk hn hZ hl hw
    exact absurd hw (fun h => h)
  | succ f ih =>
    intro H locs cells slots ls x1 x3 x4 x6 M hk hn hZ hl hw
    refine lv_iload hx hb dX9_writesDigits_6 (lv_at hl 4 rfl) ?_
    refine lv_iload_n hx hb dX9_writesDigits_8 rfl (lv_at hl 2 rfl) ?_
    refine lv_icmp_lt (tgt := 23) hx hb dX9_writesDigits_9 (by decide) (fun c12 => ?_) (fun c12 => ?_)
    · replace hw := hw.1 c12
      exact wk_X9_writesDigits_L23 hG _ (fun {_ _ _ _ _} _z0 _z1 _z2 _z3 _z4 h1 h2 h3 h4 h5 => ih _z0 _z1 _z2 _z3 _z4 h1 h2 h3 h4 h5) _ _ _ _ _ hk hn hZ (lv_sub hl [0, 1, 2, 3, 4] rfl) hw
    · replace hw := hw.2 c12
      refine lv_lload_n hx hb dX9_writesDigits_12 rfl (lv_at hl 1 rfl) ?_
      refine lv_lload hx hb dX9_writesDigits_13 (lv_at hl 3 rfl) ?_
      obtain ⟨hz0, hw⟩ := hw
      refine lv_ldiv hx hb dX9_writesDigits_15 hz0 ?_
      refine lv_ldc2 hx hb hown (hts _ q2145) dX9_writesDigits_16 ?_
      refine W.lcmp hx hb dX9_writesDigits_19 ?_
      refine lv_if_le (tgt := 37) hx hb dX9_writesDigits_20 (by decide) (fun c11 => ?_) (fun c11 => ?_)
      · replace hw := hw.1 c11
        obtain ⟨f1, hw⟩ := hw
        exact wk_X9_writesDigits_L37 hG f1 _ _ _ hk hn hZ (lv_sub hl [0, 1, 3] rfl) hw
      · replace hw := hw.2 c11
        exact wk_X9_writesDigits_L23 hG _ (fun {_ _ _ _ _} _z0 _z1 _z2 _z3 _z4 h1 h2 h3 h4 h5 => ih _z0 _z1 _z2 _z3 _z4 h1 h2 h3 h4 h5) _ _ _ _ _ hk hn hZ (lv_sub hl [0, 1, 2, 3, 4] rfl) hw
def wp_X9_writesDigits (D : zD) (post : Unit → zM → Prop) (o : Nat) (a0 : Int64) (a1 : Int32) (M : zM) : Prop :=
    (∃ f, wp_X9_writesDigits_L6 D post o f a0 a1 (1 : Int64) (1 : Int32) M)
set_option maxHeartbeats 4000000 in
set_option maxRecDepth 100000 in
theorem w_X9_writesDigits {l : Launch} {D : zD} {post : Unit → zM → Prop} (hlt : l.stackTraces = false) {o : Nat} {a0 : Int64} {a1 : Int32} {M : zM} (hw : wp_X9_writesDigits D post o a0 a1 M) : zMet l D yX9_writesDigits (ws_ yX9_writesDigits cX9_writesDigits 7 (none)) rm_X9_writesDigits 0 0 [.ref o, .long a0, .int a1] M zU post (fun _ _ => False) := by
  unfold wp_X9_writesDigits at hw
  have hlv : lv_args 0 [.ref o, .long a0, .int a1] = [(0, .ref o), (1, .long a0), (3, .int a1)] := (zargs1 rfl (zargs2 rfl (zargs1 rfl rfl)))
  refine z_ofW hlt (by decide) (Nat.le_trans (zsl1 rfl (zsl2 rfl (zsl1 rfl (Nat.le_refl 0 : (lg_sl []).length ≤ 0)))) (Nat.le_of_ble_eq_true rfl)) hlv ?_
  intro p e s m args below meth c ls hG hZ hl
  have hC := hG.1
  have hx := hC.x
  have hb := hC.b
  have hown := hC.o
  have hts := hC.ts
  have hlt := hG.2.2.2.2.2
  obtain ⟨cells, hce⟩ : ∃ z : Nat, z = 0 := ⟨0, rfl⟩
  obtain ⟨slots, hsl⟩ : ∃ z : Nat, z = 0 := ⟨0, rfl⟩
  refine W.cs (cells' := cells) (slots' := slots) hce.symm hsl.symm ?_
  have hk : cells ≤ 0 := Nat.le_of_eq hce
  have hn : slots ≤ 0 := Nat.le_of_eq hsl
  clear hce hsl
  refine lv_lconst (v := 1) hx hb dX9_writesDigits_0 (by decide) ?_
  refine lv_lstore (i := 4) (lv' := [(4, .long (1 : Int64)), (0, .ref o), (1, .long a0), (3, .int a1)]) hx hb dX9_writesDigits_1 hl (by decide) rfl (fun ls hl1 => ?_)
  replace hl := hl1
  clear hl1
  refine lv_iconst (v := 1) hx hb dX9_writesDigits_3 (by decide) ?_
  refine lv_istore (i := 6) (lv' := [(6, .int (1 : Int32)), (4, .long (1 : Int64)), (0, .ref o), (1, .long a0), (3, .int a1)]) hx hb dX9_writesDigits_4 hl (by decide) rfl (fun ls hl1 => ?_)
  replace hl := hl1
  clear hl1
  obtain ⟨f1, hw⟩ := hw
  exact wk_X9_writesDigits_L6 hG f1 _ _ _ _ _ hk hn hZ (lv_sub hl [2, 3, 4, 1, 0] rfl) hw
abbrev rm_X9_writesPoint : Room := { frames := 2, cells := 0, slots := 0, locals := 85 }
def wp_X9_writesPoint_L18 (D : zD) (post : Unit → zM → Prop) (o : Nat) (y0 : Option Nat) (y1 : Int32) (M : zM) : Prop :=
    ((zd y0 fun b1 => (zis M b1 [8] ∧ wp_X9_writes D (fun _ M => post () M) b1 y1 M)))
set_option maxHeartbeats 4000000 in
set_option maxRecDepth 100000 in
theorem wk_X9_writesPoint_L18 {p : Program} {l : Launch} {e : Env} {s : State} {m : MethodId} {args : Array Value} {below : List Frame} {meth : Method} {c : Code} {D : zD} {post : Unit → zM → Prop} {o : Nat} (hG : zGx p l s m args meth c cX9_writesPoint 1 "PluralBranchesModel" D (none) "writesPoint" []) : ∀ {H : Heap} {locs : List Loc} {cells slots : Nat} {ls : Array Slot} (y0 : Option Nat) (y1 : Int32) (M : zM), cells ≤ 0 → slots ≤ 0 → zS D M H locs → lv_has ls 1 [] → wp_X9_writesPoint_L18 D post o y0 y1 M → W p l e rm_X9_writesPoint s m args below meth c H locs cells slots (vx_MQ below (zQ D zU post) (zX D (fun _ _ => False)) args s 0 0 (zA D)) (F0 m 18 ls [.int y1, va_rf y0]) := by
  have hC := hG.1
  have hx := hC.x
  have hb := hC.b
  have hown := hC.o
  have hts := hC.ts
  have hlt := hG.2.2.2.2.2
  intro H locs cells slots ls y0 y1 M hk hn hZ hl hw
  obtain ⟨b5, hr0, hw⟩ := hw
  subst hr0
  obtain ⟨⟨ci0, fs0, hci0, hM0⟩, hw⟩ := hw
  obtain rfl : ci0 = 8 := List.mem_singleton.mp hci0
  refine z_callU hZ (vx_runV (As := [.int y1]) (rest := []) hC.fix (w_X9_writes hlt hw) (cwV 1 hts (lw_V q2137 q2139 qs53 q83 q2140) rfl rfl rfl ⟨rfl, dd_X9_writes⟩ ⟨Nat.le_of_ble_eq_true rfl, Nat.le_of_ble_eq_true rfl⟩) (z_preV hC hZ hM0 zc8) rfl rfl hl.1 rfl (lv_room (Nat.zero_le _)) dX9_writesPoint_18 ⟨hk, hn⟩) (fun r6 M H locs hw1 hZ => ?_) (fun q M H locs ci fs E T9 N9 hw hZ hc1 hM1 hb1 => False.elim hw)
  replace hw := hw1
  clear hw1
  refine W.cs (cells' := cells) (slots' := slots) rfl rfl ?_
  exact z_vret hG hZ hk hn hw dX9_writesPoint_21
def wp_X9_writesPoint (D : zD) (post : Unit → zM → Prop) (o : Nat) (M : zM) : Prop :=
    (zgI M o 8 49 fun g9 => (wp_X9_isPointed D (fun r10 M => ((r10 = 0 → wp_X9_writesPoint_L18 D post o (some o) (44 : Int32) M) ∧ (¬ r10 = 0 → wp_X9_writesPoint_L18 D post o (some o) (46 : Int32) M))) g9 M))
set_option maxHeartbeats 4000000 in
set_option maxRecDepth 100000 in
theorem w_X9_writesPoint {l : Launch} {D : zD} {post : Unit → zM → Prop} (hlt : l.stackTraces = false) {o : Nat} {M : zM} (hw : wp_X9_writesPoint D post o M) : zMet l D yX9_writesPoint (ws_ yX9_writesPoint cX9_writesPoint 1 (none)) rm_X9_writesPoint 0 0 [.ref o] M zU post (fun _ _ => False) := by
  unfold wp_X9_writesPoint at hw
  have hlv : lv_args 0 [.ref o] = [(0, .ref o)] := (zargs1 rfl rfl)
  refine z_ofW hlt (by decide) (Nat.le_trans (zsl1 rfl (Nat.le_refl 0 : (lg_sl []).length ≤ 0)) (Nat.le_of_ble_eq_true rfl)) hlv ?_
  intro p e s m args below meth c ls hG hZ hl
  have hC := hG.1
  have hx := hC.x
  have hb := hC.b
  have hown := hC.o
  have hts := hC.ts
  have hlt := hG.2.2.2.2.2
  obtain ⟨cells, hce⟩ : ∃ z : Nat, z = 0 := ⟨0, rfl⟩
  obtain ⟨slots, hsl⟩ : ∃ z : Nat, z = 0 := ⟨0, rfl⟩
  refine W.cs (cells' := cells) (slots' := slots) hce.symm hsl.symm ?_
  have hk : cells ≤ 0 := Nat.le_of_eq hce
  have hn : slots ≤ 0 := Nat.le_of_eq hsl
  clear hce hsl
  refine lv_aload_n hx hb dX9_writesPoint_0 rfl (lv_at hl 0 rfl) ?_
  refine lv_aload_n hx hb dX9_writesPoint_1 rfl (lv_at hl 0 rfl) ?_
  obtain ⟨fs0, g14, hM0, hx0, hw⟩ := hw
  refine z_get hC hZ hM0 zc8 49 (by decide) q1769 (fun _ h9 => h9) hx0 dX9_writesPoint_2 ?_
  refine z_callI hZ (vx_runS (As := [.int g14]) (rest := [.ref o]) hC.fix (w_X9_isPointed hlt hw) (va_cwS 1 hts (lw_S q2150 q2151 q83 q2152) rfl rfl rfl dd_X9_isPointed ⟨Nat.le_of_ble_eq_true rfl, Nat.le_of_ble_eq_true rfl⟩) (z_preS hC hZ) rfl rfl hl.1 rfl (lv_room (Nat.le_trans (zrm1 rfl zrm0) (Nat.le_of_ble_eq_true rfl))) dX9_writesPoint_5 ⟨hk, hn⟩) (fun r15 M H locs hw1 hZ => ?_) (fun q M H locs ci fs E T9 N9 hw hZ hc1 hM1 hb1 => False.elim hw)
  replace hw := hw1
  clear hw1
  refine W.cs (cells' := cells) (slots' := slots) rfl rfl ?_
  refine lv_if_eq (tgt := 16) hx hb dX9_writesPoint_8 (by decide) (fun c18 => ?_) (fun c18 => ?_)
  · replace hw := hw.1 c18
    refine lv_bipush (v := 44) hx hb dX9_writesPoint_16 (by decide) ?_
    exact wk_X9_writesPoint_L18 hG _ _ _ hk hn hZ (lv_sub hl [] rfl) hw
  · replace hw := hw.2 c18
    refine lv_bipush (v := 46) hx hb dX9_writesPoint_11 (by decide) ?_
    refine lv_goto (tgt := 18) hx hb dX9_writesPoint_13 (by decide) ?_
    exact wk_X9_writesPoint_L18 hG _ _ _ hk hn hZ (lv_sub hl [] rfl) hw
abbrev rm_X9_writesShaped : Room := { frames := 3, cells := 0, slots := 0, locals := 111 }
def wp_X9_writesShaped_L230 (D : zD) (post : Unit → zM → Prop) (o : Nat) (M : zM) : Prop :=
    post () M
set_option maxHeartbeats 4000000 in
set_option maxRecDepth 100000 in
theorem wk_X9_writesShaped_L230 {p : Program} {l : Launch} {e : Env} {s : State} {m : MethodId} {args : Array Value} {below : List Frame} {meth : Method} {c : Code} {D : zD} {post : Unit → zM → Prop} {o : Nat} (hG : zGx p l s m args meth c cX9_writesShaped 10 "PluralBranchesModel" D (none) "writesShaped" []) : ∀ {H : Heap} {locs : List Loc} {cells slots : Nat} {ls : Array Slot} (M : zM), cells ≤ 0 → slots ≤ 0 → zS D M H locs → lv_has ls 10 [] → wp_X9_writesShaped_L230 D post o M → W p l e rm_X9_writesShaped s m args below meth c H locs cells slots (vx_MQ below (zQ D zU post) (zX D (fun _ _ => False)) args s 0 0 (zA D)) (F0 m 230 ls []) := by
  have hC := hG.1
  have hx := hC.x
  have hb := hC.b
  have hown := hC.o
  have hts := hC.ts
  have hlt := hG.2.2.2.2.2
  intro H locs cells slots ls M hk hn hZ hl hw
  exact z_vret hG hZ hk hn hw dX9_writesShaped_230
def wp_X9_writesShaped_L208 (D : zD) (post : Unit → zM → Prop) (o : Nat) (x3 : Int64) (x5 : Int32) (M : zM) : Prop :=
    ((x5 ≤ 0 → wp_X9_writesShaped_L230 D post o M) ∧ (¬ x5 ≤ 0 → ((zis M o [8] ∧ wp_X9_writesPoint D (fun _ M => (wp_X9_tens D (fun r4 M => (¬ r4 = 0 ∧ ((zis M o [8] ∧ wp_X9_writesDigits D (fun _ M => wp_X9_writesShaped_L230 D post o M) o (x3 - x3 / r4 * r4) x5 M)))) x5 M)) o M))))
set_option maxHeartbeats 4000000 in
set_option maxRecDepth 100000 in
theorem wk_X9_writesShaped_L208 {p : Program} {l : Launch} {e : Env} {s : State} {m : MethodId} {args : Array Value} {below : List Frame} {meth : Method} {c : Code} {D : zD} {post : Unit → zM → Prop} {o : Nat} (hG : zGx p l s m args meth c cX9_writesShaped 10 "PluralBranchesModel" D (none) "writesShaped" []) : ∀ {H : Heap} {locs : List Loc} {cells slots : Nat} {ls : Array Slot} (x3 : Int64) (x5 : Int32) (M : zM), cells ≤ 0 → slots ≤ 0 → zS D M H locs → lv_has ls 10 [(0, .ref o), (3, .long x3), (5, .int x5)] → wp_X9_writesShaped_L208 D post o x3 x5 M → W p l e rm_X9_writesShaped s m args below meth c H locs cells slots (vx_MQ below (zQ D zU post) (zX D (fun _ _ => False)) args s 0 0 (zA D)) (F0 m 208 ls []) := by
  have hC := hG.1
  have hx := hC.x
  have hb := hC.b
  have hown := hC.o
  have hts := hC.ts
  have hlt := hG.2.2.2.2.2
  intro H locs cells slots ls x3 x5 M hk hn hZ hl hw
  refine lv_iload hx hb dX9_writesShaped_208 (lv_at hl 2 rfl) ?_
  refine lv_if_le (tgt := 230) hx hb dX9_writesShaped_210 (by decide) (fun c20 => ?_) (fun c20 => ?_)
  · replace hw := hw.1 c20
    exact wk_X9_writesShaped_L230 hG _ hk hn hZ (lv_sub hl [] rfl) hw
  · replace hw := hw.2 c20
    refine lv_aload_n hx hb dX9_writesShaped_213 rfl (lv_at hl 0 rfl) ?_
    obtain ⟨⟨ci0, fs0, hci0, hM0⟩, hw⟩ := hw
    obtain rfl : ci0 = 8 := List.mem_singleton.mp hci0
    refine z_callU hZ (vx_runV (As := []) (rest := []) hC.fix (w_X9_writesPoint hlt hw) (cwV 0 hts (lw_V q2146 q2148 qs55 q83 q2149) rfl rfl rfl ⟨rfl, dd_X9_writesPoint⟩ ⟨Nat.le_of_ble_eq_true rfl, Nat.le_of_ble_eq_true rfl⟩) (z_preV hC hZ hM0 zc8) rfl rfl hl.1 rfl (lv_room (Nat.zero_le _)) dX9_writesShaped_214 ⟨hk, hn⟩) (fun r11 M H locs hw1 hZ => ?_) (fun q M H locs ci fs E T9 N9 hw hZ hc1 hM1 hb1 => False.elim hw)
    replace hw := hw1
    clear hw1
    refine W.cs (cells' := cells) (slots' := slots) rfl rfl ?_
    refine lv_aload_n hx hb dX9_writesShaped_217 rfl (lv_at hl 0 rfl) ?_
    refine lv_lload_n hx hb dX9_writesShaped_218 rfl (lv_at hl 1 rfl) ?_
    refine lv_iload hx hb dX9_writesShaped_219 (lv_at hl 2 rfl) ?_
    refine z_callL hZ (vx_runS (As := [.int x5]) (rest := [.long x3, .ref o]) hC.fix (w_X9_tens hlt hw) (va_cwS 1 hts (lw_S q1901 q1902 q83 q1903) rfl rfl rfl dd_X9_tens ⟨Nat.le_of_ble_eq_true rfl, Nat.le_of_ble_eq_true rfl⟩) (z_preS hC hZ) rfl rfl hl.1 rfl (lv_room (Nat.le_trans (zrm2 rfl (zrm1 rfl zrm0)) (Nat.le_of_ble_eq_true rfl))) dX9_writesShaped_221 ⟨hk, hn⟩) (fun r14 M H locs hw1 hZ => ?_) (fun q M H locs ci fs E T9 N9 hw hZ hc1 hM1 hb1 => False.elim hw)
    replace hw := hw1
    clear hw1
    refine W.cs (cells' := cells) (slots' := slots) rfl rfl ?_
    obtain ⟨hz0, hw⟩ := hw
    refine lv_lrem hx hb dX9_writesShaped_224 hz0 ?_
    refine lv_iload hx hb dX9_writesShaped_225 (lv_at hl 2 rfl) ?_
    obtain ⟨⟨ci0, fs0, hci0, hM0⟩, hw⟩ := hw
    obtain rfl : ci0 = 8 := List.mem_singleton.mp hci0
    refine z_callU hZ (vx_runV (As := [.long (x3 - x3 / r14 * r14), .int x5]) (rest := []) hC.fix (w_X9_writesDigits hlt hw) (cwV 2 hts (lw_V q2141 q2143 qs54 q83 q2144) rfl rfl rfl ⟨rfl, dd_X9_writesDigits⟩ ⟨Nat.le_of_ble_eq_true rfl, Nat.le_of_ble_eq_true rfl⟩) (z_preV hC hZ hM0 zc8) rfl rfl hl.1 rfl (lv_room (Nat.zero_le _)) dX9_writesShaped_227 ⟨hk, hn⟩) (fun r17 M H locs hw1 hZ => ?_) (fun q M H locs ci fs E T9 N9 hw hZ hc1 hM1 hb1 => False.elim hw)
    replace hw := hw1
    clear hw1
    refine W.cs (cells' := cells) (slots' := slots) rfl rfl ?_
    exact wk_X9_writesShaped_L230 hG _ hk hn hZ (lv_sub hl [] rfl) hw
def wp_X9_writesShaped_L162 (D : zD) (post : Unit → zM → Prop) (o : Nat) (x3 : Int64) (x5 : Int32) (M : zM) : Prop :=
    (zgI M o 8 48 fun g21 => (wp_X9_tens D (fun r22 M => (¬ r22 = 0 ∧ (zgI M o 8 38 fun g25 => ((zis M o [8] ∧ wp_X9_writesDigits D (fun _ M => (zgI M o 8 48 fun g29 => (zgI M o 8 37 fun g30 => ((¬ g30 = (1 : Int32) → wp_X9_writesShaped_L208 D post o x3 x5 M) ∧ (g30 = (1 : Int32) → ((zis M o [8] ∧ wp_X9_groups D (fun _ M => wp_X9_writesShaped_L208 D post o x3 x5 M) o g21 (g29 - g21) M))))))) o (x3 / r22) g25 M))))) x5 M))
set_option maxHeartbeats 4000000 in
set_option maxRecDepth 100000 in
theorem wk_X9_writesShaped_L162 {p : Program} {l : Launch} {e : Env} {s : State} {m : MethodId} {args : Array Value} {below : List Frame} {meth : Method} {c : Code} {D : zD} {post : Unit → zM → Prop} {o : Nat} (hG : zGx p l s m args meth c cX9_writesShaped 10 "PluralBranchesModel" D (none) "writesShaped" []) : ∀ {H : Heap} {locs : List Loc} {cells slots : Nat} {ls : Array Slot} (x3 : Int64) (x5 : Int32) (M : zM), cells ≤ 0 → slots ≤ 0 → zS D M H locs → lv_has ls 10 [(0, .ref o), (3, .long x3), (5, .int x5)] → wp_X9_writesShaped_L162 D post o x3 x5 M → W p l e rm_X9_writesShaped s m args below meth c H locs cells slots (vx_MQ below (zQ D zU post) (zX D (fun _ _ => False)) args s 0 0 (zA D)) (F0 m 162 ls []) := by
  have hC := hG.1
  have hx := hC.x
  have hb := hC.b
  have hown := hC.o
  have hts := hC.ts
  have hlt := hG.2.2.2.2.2
  intro H locs cells slots ls x3 x5 M hk hn hZ hl hw
  refine lv_aload_n hx hb dX9_writesShaped_162 rfl (lv_at hl 0 rfl) ?_
  obtain ⟨fs0, g35, hM0, hx0, hw⟩ := hw
  refine z_get hC hZ hM0 zc8 48 (by decide) q1768 (fun _ h9 => h9) hx0 dX9_writesShaped_163 ?_
  refine lv_istore (i := 6) (lv' := [(6, .int g35), (0, .ref o), (3, .long x3), (5, .int x5)]) hx hb dX9_writesShaped_166 hl (by decide) rfl (fun ls hl1 => ?_)
  replace hl := hl1
  clear hl1
  refine lv_aload_n hx hb dX9_writesShaped_168 rfl (lv_at hl 1 rfl) ?_
  refine lv_lload_n hx hb dX9_writesShaped_169 rfl (lv_at hl 2 rfl) ?_
  refine lv_iload hx hb dX9_writesShaped_170 (lv_at hl 3 rfl) ?_
  refine z_callL hZ (vx_runS (As := [.int x5]) (rest := [.long x3, .ref o]) hC.fix (w_X9_tens hlt hw) (va_cwS 1 hts (lw_S q1901 q1902 q83 q1903) rfl rfl rfl dd_X9_tens ⟨Nat.le_of_ble_eq_true rfl, Nat.le_of_ble_eq_true rfl⟩) (z_preS hC hZ) rfl rfl hl.1 rfl (lv_room (Nat.le_trans (zrm2 rfl (zrm1 rfl zrm0)) (Nat.le_of_ble_eq_true rfl))) dX9_writesShaped_172 ⟨hk, hn⟩) (fun r36 M H locs hw1 hZ => ?_) (fun q M H locs ci fs E T9 N9 hw hZ hc1 hM1 hb1 => False.elim hw)
  replace hw := hw1
  clear hw1
  refine W.cs (cells' := cells) (slots' := slots) rfl rfl ?_
  obtain ⟨hz0, hw⟩ := hw
  refine lv_ldiv hx hb dX9_writesShaped_175 hz0 ?_
  refine lv_aload_n hx hb dX9_writesShaped_176 rfl (lv_at hl 1 rfl) ?_
  obtain ⟨fs0, g39, hM0, hx0, hw⟩ := hw
  refine z_get hC hZ hM0 zc8 38 (by decide) q1758 (fun _ h9 => h9) hx0 dX9_writesShaped_177 ?_
  obtain ⟨⟨ci0, fs0, hci0, hM0⟩, hw⟩ := hw
  obtain rfl : ci0 = 8 := List.mem_singleton.mp hci0
  refine z_callU hZ (vx_runV (As := [.long (x3 / r36), .int g39]) (rest := []) hC.fix (w_X9_writesDigits hlt hw) (cwV 2 hts (lw_V q2141 q2143 qs54 q83 q2144) rfl rfl rfl ⟨rfl, dd_X9_writesDigits⟩ ⟨Nat.le_of_ble_eq_true rfl, Nat.le_of_ble_eq_true rfl⟩) (z_preV hC hZ hM0 zc8) rfl rfl hl.1 rfl (lv_room (Nat.zero_le _)) dX9_writesShaped_180 ⟨hk, hn⟩) (fun r40 M H locs hw1 hZ => ?_) (fun q M H locs ci fs E T9 N9 hw hZ hc1 hM1 hb1 => False.elim hw)
  replace hw := hw1
  clear hw1
  refine W.cs (cells' := cells) (slots' := slots) rfl rfl ?_
  refine lv_aload_n hx hb dX9_writesShaped_183 rfl (lv_at hl 1 rfl) ?_
  obtain ⟨fs0, g43, hM0, hx0, hw⟩ := hw
  refine z_get hC hZ hM0 zc8 48 (by decide) q1768 (fun _ h9 => h9) hx0 dX9_writesShaped_184 ?_
  refine lv_iload hx hb dX9_writesShaped_187 (lv_at hl 0 rfl) ?_
  refine lv_isub hx hb dX9_writesShaped_189 ?_
  refine lv_istore (i := 7) (lv' := [(7, .int (g43 - g35)), (6, .int g35), (0, .ref o), (3, .long x3), (5, .int x5)]) hx hb dX9_writesShaped_190 hl (by decide) rfl (fun ls hl1 => ?_)
  replace hl := hl1
  clear hl1
  refine lv_aload_n hx hb dX9_writesShaped_192 rfl (lv_at hl 2 rfl) ?_
  obtain ⟨fs0, g44, hM0, hx0, hw⟩ := hw
  refine z_get hC hZ hM0 zc8 37 (by decide) q1757 (fun _ h9 => h9) hx0 dX9_writesShaped_193 ?_
  refine lv_iconst (v := 1) hx hb dX9_writesShaped_196 (by decide) ?_
  refine lv_icmp_ne (tgt := 208) hx hb dX9_writesShaped_197 (by decide) (fun c48 => ?_) (fun c48 => ?_)
  · replace hw := hw.1 c48
    exact wk_X9_writesShaped_L208 hG _ _ _ hk hn hZ (lv_sub hl [2, 3, 4] rfl) hw
  · replace hw := hw.2 c48
    refine lv_aload_n hx hb dX9_writesShaped_200 rfl (lv_at hl 2 rfl) ?_
    refine lv_iload hx hb dX9_writesShaped_201 (lv_at hl 1 rfl) ?_
    refine lv_iload hx hb dX9_writesShaped_203 (lv_at hl 0 rfl) ?_
    obtain ⟨⟨ci0, fs0, hci0, hM0⟩, hw⟩ := hw
    obtain rfl : ci0 = 8 := List.mem_singleton.mp hci0
    refine z_callU hZ (vx_runV (As := [.int g35, .int (g43 - g35)]) (rest := []) hC.fix (w_X9_groups hlt hw) (cwV 2 hts (lw_V q2186 q2188 qs61 q83 q2189) rfl rfl rfl ⟨rfl, dd_X9_groups⟩ ⟨Nat.le_of_ble_eq_true rfl, Nat.le_of_ble_eq_true rfl⟩) (z_preV hC hZ hM0 zc8) rfl rfl hl.1 rfl (lv_room (Nat.zero_le _)) dX9_writesShaped_205 ⟨hk, hn⟩) (fun r45 M H locs hw1 hZ => ?_) (fun q M H locs ci fs E T9 N9 hw hZ hc1 hM1 hb1 => False.elim hw)
    replace hw := hw1
    clear hw1
    refine W.cs (cells' := cells) (slots' := slots) rfl rfl ?_
    exact wk_X9_writesShaped_L208 hG _ _ _ hk hn hZ (lv_sub hl [2, 3, 4] rfl) hw
def wp_X9_writesShaped_L146 (D : zD) (post : Unit → zM → Prop) (o : Nat) (x1 : Int32) (x3 : Int64) (x5 : Int32) (M : zM) : Prop :=
    ((0 ≤ x1 → wp_X9_writesShaped_L162 D post o x3 x5 M) ∧ (¬ 0 ≤ x1 → (((lg_cmp x3 (0 : Int64)) = 0 → wp_X9_writesShaped_L162 D post o x3 x5 M) ∧ (¬ (lg_cmp x3 (0 : Int64)) = 0 → ((zis M o [8] ∧ wp_X9_writes D (fun _ M => wp_X9_writesShaped_L162 D post o x3 x5 M) o (45 : Int32) M))))))
set_option maxHeartbeats 4000000 in
set_option maxRecDepth 100000 in
theorem wk_X9_writesShaped_L146 {p : Program} {l : Launch} {e : Env} {s : State} {m : MethodId} {args : Array Value} {below : List Frame} {meth : Method} {c : Code} {D : zD} {post : Unit → zM → Prop} {o : Nat} (hG : zGx p l s m args meth c cX9_writesShaped 10 "PluralBranchesModel" D (none) "writesShaped" []) : ∀ {H : Heap} {locs : List Loc} {cells slots : Nat} {ls : Array Slot} (x1 : Int32) (x3 : Int64) (x5 : Int32) (M : zM), cells ≤ 0 → slots ≤ 0 → zS D M H locs → lv_has ls 10 [(0, .ref o), (1, .int x1), (3, .long x3), (5, .int x5)] → wp_X9_writesShaped_L146 D post o x1 x3 x5 M → W p l e rm_X9_writesShaped s m args below meth c H locs cells slots (vx_MQ below (zQ D zU post) (zX D (fun _ _ => False)) args s 0 0 (zA D)) (F0 m 146 ls []) := by
  have hC := hG.1
  have hx := hC.x
  have hb := hC.b
  have hown := hC.o
  have hts := hC.ts
  have hlt := hG.2.2.2.2.2
  intro H locs cells slots ls x1 x3 x5 M hk hn hZ hl hw
  refine lv_iload_n hx hb dX9_writesShaped_146 rfl (lv_at hl 1 rfl) ?_
  refine lv_if_ge (tgt := 162) hx hb dX9_writesShaped_147 (by decide) (fun c58 => ?_) (fun c58 => ?_)
  · replace hw := hw.1 c58
    exact wk_X9_writesShaped_L162 hG _ _ _ hk hn hZ (lv_sub hl [0, 2, 3] rfl) hw
  · replace hw := hw.2 c58
    refine lv_lload_n hx hb dX9_writesShaped_150 rfl (lv_at hl 2 rfl) ?_
    refine lv_lconst (v := 0) hx hb dX9_writesShaped_151 (by decide) ?_
    refine W.lcmp hx hb dX9_writesShaped_152 ?_
    refine lv_if_eq (tgt := 162) hx hb dX9_writesShaped_153 (by decide) (fun c57 => ?_) (fun c57 => ?_)
    · replace hw := hw.1 c57
      exact wk_X9_writesShaped_L162 hG _ _ _ hk hn hZ (lv_sub hl [0, 2, 3] rfl) hw
    · replace hw := hw.2 c57
      refine lv_aload_n hx hb dX9_writesShaped_156 rfl (lv_at hl 0 rfl) ?_
      refine lv_bipush (v := 45) hx hb dX9_writesShaped_157 (by decide) ?_
      obtain ⟨⟨ci0, fs0, hci0, hM0⟩, hw⟩ := hw
      obtain rfl : ci0 = 8 := List.mem_singleton.mp hci0
      refine z_callU hZ (vx_runV (As := [.int (45 : Int32)]) (rest := []) hC.fix (w_X9_writes hlt hw) (cwV 1 hts (lw_V q2137 q2139 qs53 q83 q2140) rfl rfl rfl ⟨rfl, dd_X9_writes⟩ ⟨Nat.le_of_ble_eq_true rfl, Nat.le_of_ble_eq_true rfl⟩) (z_preV hC hZ hM0 zc8) rfl rfl hl.1 rfl (lv_room (Nat.zero_le _)) dX9_writesShaped_159 ⟨hk, hn⟩) (fun r54 M H locs hw1 hZ => ?_) (fun q M H locs ci fs E T9 N9 hw hZ hc1 hM1 hb1 => False.elim hw)
      replace hw := hw1
      clear hw1
      refine W.cs (cells' := cells) (slots' := slots) rfl rfl ?_
      exact wk_X9_writesShaped_L162 hG _ _ _ hk hn hZ (lv_sub hl [0, 2, 3] rfl) hw
def wp_X9_writesShaped_L115 (D : zD) (post : Unit → zM → Prop) (o : Nat) : Nat → Int32 → Int64 → Int32 → zM → Prop
  | 0 => fun _ _ _ _ => False
  | f + 1 => fun x1 x3 x5 M =>
    (zgI M o 8 39 fun g59 => ((x5 ≤ g59 → wp_X9_writesShaped_L146 D post o x1 x3 x5 M) ∧ (¬ x5 ≤ g59 → ((¬ (lg_cmp (x3 - x3 / (10 : Int64) * (10 : Int64)) (0 : Int64)) = 0 → wp_X9_writesShaped_L146 D post o x1 x3 x5 M) ∧ ((lg_cmp (x3 - x3 / (10 : Int64) * (10 : Int64)) (0 : Int64)) = 0 → wp_X9_writesShaped_L115 D post o f x1 (x3 / (10 : Int64)) (x5 + (-1)) M)))))
set_option maxHeartbeats 4000000 in
set_option maxRecDepth 100000 in
theorem wk_X9_writesShaped_L115 {p : Program} {l : Launch} {e : Env} {s : State} {m : MethodId} {args : Array Value} {below : List Frame} {meth : Method} {c : Code} {D : zD} {post : Unit → zM → Prop} {o : Nat} (hG : zGx p l s m args meth c cX9_writesShaped 10 "PluralBranchesModel" D (none) "writesShaped" []) : ∀ (f : Nat), ∀ {H : Heap} {locs : List Loc} {cells slots : Nat} {ls : Array Slot} (x1 : Int32) (x3 : Int64) (x5 : Int32) (M : zM), cells ≤ 0 → slots ≤ 0 → zS D M H locs → lv_has ls 10 [(0, .ref o), (1, .int x1), (3, .long x3), (5, .int x5)] → wp_X9_writesShaped_L115 D post o f x1 x3 x5 M → W p l e rm_X9_writesShaped s m args below meth c H locs cells slots (vx_MQ below (zQ D zU post) (zX D (fun _ _ => False)) args s 0 0 (zA D)) (F0 m 115 ls []) := by
  have hC := hG.1
  have hx := hC.x
  have hb := hC.b
  have hown := hC.o
  have hts := hC.ts
  have hlt := hG.2.2.2.2.2
  intro f
  induction f with
  | zero =>
    intro H locs cells slots ls x1 x3 x5 M hk hn hZ hl hw
    exact absurd hw (fun h => h)
  | succ f ih =>
    intro H locs cells slots ls x1 x3 x5 M hk hn hZ hl hw
    refine lv_iload hx hb dX9_writesShaped_115 (lv_at hl 3 rfl) ?_
    refine lv_aload_n hx hb dX9_writesShaped_117 rfl (lv_at hl 0 rfl) ?_
    obtain ⟨fs0, g62, hM0, hx0, hw⟩ := hw
    refine z_get hC hZ hM0 zc8 39 (by decide) q1759 (fun _ h9 => h9) hx0 dX9_writesShaped_118 ?_
    refine lv_icmp_le (tgt := 146) hx hb dX9_writesShaped_121 (by decide) (fun c64 => ?_) (fun c64 => ?_)
    · replace hw := hw.1 c64
      exact wk_X9_writesShaped_L146 hG _ _ _ _ hk hn hZ (lv_sub hl [0, 1, 2, 3] rfl) hw
    · replace hw := hw.2 c64
      refine lv_lload_n hx hb dX9_writesShaped_124 rfl (lv_at hl 2 rfl) ?_
      refine lv_ldc2 hx hb hown (hts _ q1904) dX9_writesShaped_125 ?_
      refine lv_lrem hx hb dX9_writesShaped_128 (by decide) ?_
      refine lv_lconst (v := 0) hx hb dX9_writesShaped_129 (by decide) ?_
      refine W.lcmp hx hb dX9_writesShaped_130 ?_
      refine lv_if_ne (tgt := 146) hx hb dX9_writesShaped_131 (by decide) (fun c63 => ?_) (fun c63 => ?_)
      · replace hw := hw.1 c63
        exact wk_X9_writesShaped_L146 hG _ _ _ _ hk hn hZ (lv_sub hl [0, 1, 2, 3] rfl) hw
      · replace hw := hw.2 c63
        refine lv_lload_n hx hb dX9_writesShaped_134 rfl (lv_at hl 2 rfl) ?_
        refine lv_ldc2 hx hb hown (hts _ q1904) dX9_writesShaped_135 ?_
        refine lv_ldiv hx hb dX9_writesShaped_138 (by decide) ?_
        refine lv_lstore_n (i := 3) (lv' := [(3, .long (x3 / (10 : Int64))), (0, .ref o), (1, .int x1), (5, .int x5)]) hx hb dX9_writesShaped_139 rfl hl (by decide) rfl (fun ls hl1 => ?_)
        replace hl := hl1
        clear hl1
        refine lv_iinc (v := (x5 + (-1))) (lv' := [(5, .int (x5 + (-1))), (3, .long (x3 / (10 : Int64))), (0, .ref o), (1, .int x1)]) hx hb dX9_writesShaped_140 hl (k := 3) rfl rfl (by decide) rfl (fun ls hl1 => ?_)
        replace hl := hl1
        clear hl1
        refine lv_goto (tgt := 115) hx hb dX9_writesShaped_143 (by decide) ?_
        exact ih _ _ _ _ hk hn hZ (lv_sub hl [2, 3, 1, 0] rfl) hw
def wp_X9_writesShaped_L94 (D : zD) (post : Unit → zM → Prop) (o : Nat) : Nat → Int32 → Int64 → Int32 → zM → Prop
  | 0 => fun _ _ _ _ => False
  | f + 1 => fun x1 x3 x5 M =>
    (zgI M o 8 39 fun g65 => ((g65 ≤ x5 → (∃ f, wp_X9_writesShaped_L115 D post o f x1 x3 x5 M)) ∧ (¬ g65 ≤ x5 → wp_X9_writesShaped_L94 D post o f x1 (x3 * (10 : Int64)) (x5 + 1) M)))
set_option maxHeartbeats 4000000 in
set_option maxRecDepth 100000 in
theorem wk_X9_writesShaped_L94 {p : Program} {l : Launch} {e : Env} {s : State} {m : MethodId} {args : Array Value} {below : List Frame} {meth : Method} {c : Code} {D : zD} {post : Unit → zM → Prop} {o : Nat} (hG : zGx p l s m args meth c cX9_writesShaped 10 "PluralBranchesModel" D (none) "writesShaped" []) : ∀ (f : Nat), ∀ {H : Heap} {locs : List Loc} {cells slots : Nat} {ls : Array Slot} (x1 : Int32) (x3 : Int64) (x5 : Int32) (M : zM), cells ≤ 0 → slots ≤ 0 → zS D M H locs → lv_has ls 10 [(0, .ref o), (1, .int x1), (3, .long x3), (5, .int x5)] → wp_X9_writesShaped_L94 D post o f x1 x3 x5 M → W p l e rm_X9_writesShaped s m args below meth c H locs cells slots (vx_MQ below (zQ D zU post) (zX D (fun _ _ => False)) args s 0 0 (zA D)) (F0 m 94 ls []) := by
  have hC := hG.1
  have hx := hC.x
  have hb := hC.b
  have hown := hC.o
  have hts := hC.ts
  have hlt := hG.2.2.2.2.2
  intro f
  induction f with
  | zero =>
    intro H locs cells slots ls x1 x3 x5 M hk hn hZ hl hw
    exact absurd hw (fun h => h)
  | succ f ih =>
    intro H locs cells slots ls x1 x3 x5 M hk hn hZ hl hw
    refine lv_iload hx hb dX9_writesShaped_94 (lv_at hl 3 rfl) ?_
    refine lv_aload_n hx hb dX9_writesShaped_96 rfl (lv_at hl 0 rfl) ?_
    obtain ⟨fs0, g67, hM0, hx0, hw⟩ := hw
    refine z_get hC hZ hM0 zc8 39 (by decide) q1759 (fun _ h9 => h9) hx0 dX9_writesShaped_97 ?_
    refine lv_icmp_ge (tgt := 115) hx hb dX9_writesShaped_100 (by decide) (fun c68 => ?_) (fun c68 => ?_)
    · replace hw := hw.1 c68
      obtain ⟨f1, hw⟩ := hw
      exact wk_X9_writesShaped_L115 hG f1 _ _ _ _ hk hn hZ (lv_sub hl [0, 1, 2, 3] rfl) hw
    · replace hw := hw.2 c68
      refine lv_lload_n hx hb dX9_writesShaped_103 rfl (lv_at hl 2 rfl) ?_
      refine lv_ldc2 hx hb hown (hts _ q1904) dX9_writesShaped_104 ?_
      refine lv_lmul hx hb dX9_writesShaped_107 ?_
      refine lv_lstore_n (i := 3) (lv' := [(3, .long (x3 * (10 : Int64))), (0, .ref o), (1, .int x1), (5, .int x5)]) hx hb dX9_writesShaped_108 rfl hl (by decide) rfl (fun ls hl1 => ?_)
      replace hl := hl1
      clear hl1
      refine lv_iinc (v := (x5 + 1)) (lv' := [(5, .int (x5 + 1)), (3, .long (x3 * (10 : Int64))), (0, .ref o), (1, .int x1)]) hx hb dX9_writesShaped_109 hl (k := 3) rfl rfl (by decide) rfl (fun ls hl1 => ?_)
      replace hl := hl1
      clear hl1
      refine lv_goto (tgt := 94) hx hb dX9_writesShaped_112 (by decide) ?_
      exact ih _ _ _ _ hk hn hZ (lv_sub hl [2, 3, 1, 0] rfl) hw
def wp_X9_writesShaped_L86 (D : zD) (post : Unit → zM → Prop) (o : Nat) (x1 : Int32) (y0 : Int64) (y1 : Int64) (M : zM) : Prop :=
    (zgI M o 8 40 fun g69 => (∃ f, wp_X9_writesShaped_L94 D post o f x1 (y0 + y1) g69 M))
set_option maxHeartbeats 4000000 in
set_option maxRecDepth 100000 in
theorem wk_X9_writesShaped_L86 {p : Program} {l : Launch} {e : Env} {s : State} {m : MethodId} {args : Array Value} {below : List Frame} {meth : Method} {c : Code} {D : zD} {post : Unit → zM → Prop} {o : Nat} (hG : zGx p l s m args meth c cX9_writesShaped 10 "PluralBranchesModel" D (none) "writesShaped" []) : ∀ {H : Heap} {locs : List Loc} {cells slots : Nat} {ls : Array Slot} (x1 : Int32) (y0 : Int64) (y1 : Int64) (M : zM), cells ≤ 0 → slots ≤ 0 → zS D M H locs → lv_has ls 10 [(0, .ref o), (1, .int x1)] → wp_X9_writesShaped_L86 D post o x1 y0 y1 M → W p l e rm_X9_writesShaped s m args below meth c H locs cells slots (vx_MQ below (zQ D zU post) (zX D (fun _ _ => False)) args s 0 0 (zA D)) (F0 m 86 ls [.long y1, .long y0]) := by
  have hC := hG.1
  have hx := hC.x
  have hb := hC.b
  have hown := hC.o
  have hts := hC.ts
  have hlt := hG.2.2.2.2.2
  intro H locs cells slots ls x1 y0 y1 M hk hn hZ hl hw
  refine lv_ladd hx hb dX9_writesShaped_86 ?_
  refine lv_lstore_n (i := 3) (lv' := [(3, .long (y0 + y1)), (0, .ref o), (1, .int x1)]) hx hb dX9_writesShaped_87 rfl hl (by decide) rfl (fun ls hl1 => ?_)
  replace hl := hl1
  clear hl1
  refine lv_aload_n hx hb dX9_writesShaped_88 rfl (lv_at hl 1 rfl) ?_
  obtain ⟨fs0, g70, hM0, hx0, hw⟩ := hw
  refine z_get hC hZ hM0 zc8 40 (by decide) q1760 (fun _ h9 => h9) hx0 dX9_writesShaped_89 ?_
  refine lv_istore (i := 5) (lv' := [(5, .int g70), (3, .long (y0 + y1)), (0, .ref o), (1, .int x1)]) hx hb dX9_writesShaped_92 hl (by decide) rfl (fun ls hl1 => ?_)
  replace hl := hl1
  clear hl1
  obtain ⟨f1, hw⟩ := hw
  exact wk_X9_writesShaped_L94 hG f1 _ _ _ _ hk hn hZ (lv_sub hl [2, 3, 1, 0] rfl) hw
def wp_X9_writesShaped_L81 (D : zD) (post : Unit → zM → Prop) (o : Nat) (x1 : Int32) (y0 : Int64) (M : zM) : Prop :=
    wp_X9_writesShaped_L86 D post o x1 y0 (1 : Int64) M
set_option maxHeartbeats 4000000 in
set_option maxRecDepth 100000 in
theorem wk_X9_writesShaped_L81 {p : Program} {l : Launch} {e : Env} {s : State} {m : MethodId} {args : Array Value} {below : List Frame} {meth : Method} {c : Code} {D : zD} {post : Unit → zM → Prop} {o : Nat} (hG : zGx p l s m args meth c cX9_writesShaped 10 "PluralBranchesModel" D (none) "writesShaped" []) : ∀ {H : Heap} {locs : List Loc} {cells slots : Nat} {ls : Array Slot} (x1 : Int32) (y0 : Int64) (M : zM), cells ≤ 0 → slots ≤ 0 → zS D M H locs → lv_has ls 10 [(0, .ref o), (1, .int x1)] → wp_X9_writesShaped_L81 D post o x1 y0 M → W p l e rm_X9_writesShaped s m args below meth c H locs cells slots (vx_MQ below (zQ D zU post) (zX D (fun _ _ => False)) args s 0 0 (zA D)) (F0 m 81 ls [.long y0]) := by
  have hC := hG.1
  have hx := hC.x
  have hb := hC.b
  have hown := hC.o
  have hts := hC.ts
  have hlt := hG.2.2.2.2.2
  intro H locs cells slots ls x1 y0 M hk hn hZ hl hw
  refine lv_lconst (v := 1) hx hb dX9_writesShaped_81 (by decide) ?_
  refine lv_goto (tgt := 86) hx hb dX9_writesShaped_82 (by decide) ?_
  exact wk_X9_writesShaped_L86 hG _ _ _ _ hk hn hZ (lv_sub hl [0, 1] rfl) hw
def wp_X9_writesShaped_L85 (D : zD) (post : Unit → zM → Prop) (o : Nat) (x1 : Int32) (y0 : Int64) (M : zM) : Prop :=
    wp_X9_writesShaped_L86 D post o x1 y0 (0 : Int64) M
set_option maxHeartbeats 4000000 in
set_option maxRecDepth 100000 in
theorem wk_X9_writesShaped_L85 {p : Program} {l : Launch} {e : Env} {s : State} {m : MethodId} {args : Array Value} {below : List Frame} {meth : Method} {c : Code} {D : zD} {post : Unit → zM → Prop} {o : Nat} (hG : zGx p l s m args meth c cX9_writesShaped 10 "PluralBranchesModel" D (none) "writesShaped" []) : ∀ {H : Heap} {locs : List Loc} {cells slots : Nat} {ls : Array Slot} (x1 : Int32) (y0 : Int64) (M : zM), cells ≤ 0 → slots ≤ 0 → zS D M H locs → lv_has ls 10 [(0, .ref o), (1, .int x1)] → wp_X9_writesShaped_L85 D post o x1 y0 M → W p l e rm_X9_writesShaped s m args below meth c H locs cells slots (vx_MQ below (zQ D zU post) (zX D (fun _ _ => False)) args s 0 0 (zA D)) (F0 m 85 ls [.long y0]) := by
  have hC := hG.1
  have hx := hC.x
  have hb := hC.b
  have hown := hC.o
  have hts := hC.ts
  have hlt := hG.2.2.2.2.2
  intro H locs cells slots ls x1 y0 M hk hn hZ hl hw
  refine lv_lconst (v := 0) hx hb dX9_writesShaped_85 (by decide) ?_
  exact wk_X9_writesShaped_L86 hG _ _ _ _ hk hn hZ (lv_sub hl [0, 1] rfl) hw
def wp_X9_writesShaped_L12 (D : zD) (post : Unit → zM → Prop) (o : Nat) (x1 : Int32) (x2 : Int32) (y0 : Int64) (M : zM) : Prop :=
    (zgI M o 8 40 fun g71 => ((x2 ≤ g71 → (∃ f, wp_X9_writesShaped_L94 D post o f x1 y0 x2 M)) ∧ (¬ x2 ≤ g71 → (zgI M o 8 40 fun g72 => (wp_X9_tens D (fun r73 M => (¬ r73 = 0 ∧ (¬ r73 = 0 ∧ ((0 < (lg_cmp ((2 : Int64) * (y0 - y0 / r73 * r73)) r73) → wp_X9_writesShaped_L81 D post o x1 (y0 / r73) M) ∧ (¬ 0 < (lg_cmp ((2 : Int64) * (y0 - y0 / r73 * r73)) r73) → ((¬ (lg_cmp ((2 : Int64) * (y0 - y0 / r73 * r73)) r73) = 0 → wp_X9_writesShaped_L85 D post o x1 (y0 / r73) M) ∧ ((lg_cmp ((2 : Int64) * (y0 - y0 / r73 * r73)) r73) = 0 → ((¬ (lg_cmp ((y0 / r73) - (y0 / r73) / (2 : Int64) * (2 : Int64)) (1 : Int64)) = 0 → wp_X9_writesShaped_L85 D post o x1 (y0 / r73) M) ∧ ((lg_cmp ((y0 / r73) - (y0 / r73) / (2 : Int64) * (2 : Int64)) (1 : Int64)) = 0 → wp_X9_writesShaped_L81 D post o x1 (y0 / r73) M))))))))) (x2 - g72) M)))))
set_option maxHeartbeats 4000000 in
set_option maxRecDepth 100000 in
theorem wk_X9_writesShaped_L12 {p : Program} {l : Launch} {e : Env} {s : State} {m : MethodId} {args : Array Value} {below : List Frame} {meth : Method} {c : Code} {D : zD} {post : Unit → zM → Prop} {o : Nat} (hG : zGx p l s m args meth c cX9_writesShaped 10 "PluralBranchesModel" D (none) "writesShaped" []) : ∀ {H : Heap} {locs : List Loc} {cells slots : Nat} {ls : Array Slot} (x1 : Int32) (x2 : Int32) (y0 : Int64) (M : zM), cells ≤ 0 → slots ≤ 0 → zS D M H locs → lv_has ls 10 [(0, .ref o), (1, .int x1), (2, .int x2)] → wp_X9_writesShaped_L12 D post o x1 x2 y0 M → W p l e rm_X9_writesShaped s m args below meth c H locs cells slots (vx_MQ below (zQ D zU post) (zX D (fun _ _ => False)) args s 0 0 (zA D)) (F0 m 12 ls [.long y0]) := by
  have hC := hG.1
  have hx := hC.x
  have hb := hC.b
  have hown := hC.o
  have hts := hC.ts
  have hlt := hG.2.2.2.2.2
  intro H locs cells slots ls x1 x2 y0 M hk hn hZ hl hw
  refine lv_lstore_n (i := 3) (lv' := [(3, .long y0), (0, .ref o), (1, .int x1), (2, .int x2)]) hx hb dX9_writesShaped_12 rfl hl (by decide) rfl (fun ls hl1 => ?_)
  replace hl := hl1
  clear hl1
  refine lv_iload_n hx hb dX9_writesShaped_13 rfl (lv_at hl 3 rfl) ?_
  refine lv_istore (i := 5) (lv' := [(5, .int x2), (3, .long y0), (0, .ref o), (1, .int x1), (2, .int x2)]) hx hb dX9_writesShaped_14 hl (by decide) rfl (fun ls hl1 => ?_)
  replace hl := hl1
  clear hl1
  refine lv_iload_n hx hb dX9_writesShaped_16 rfl (lv_at hl 4 rfl) ?_
  refine lv_aload_n hx hb dX9_writesShaped_17 rfl (lv_at hl 2 rfl) ?_
  obtain ⟨fs0, g80, hM0, hx0, hw⟩ := hw
  refine z_get hC hZ hM0 zc8 40 (by decide) q1760 (fun _ h9 => h9) hx0 dX9_writesShaped_18 ?_
  refine lv_icmp_le (tgt := 94) hx hb dX9_writesShaped_21 (by decide) (fun c88 => ?_) (fun c88 => ?_)
  · replace hw := hw.1 c88
    obtain ⟨f1, hw⟩ := hw
    exact wk_X9_writesShaped_L94 hG f1 _ _ _ _ hk hn hZ (lv_sub hl [2, 3, 1, 0] rfl) hw
  · replace hw := hw.2 c88
    refine lv_iload_n hx hb dX9_writesShaped_24 rfl (lv_at hl 4 rfl) ?_
    refine lv_aload_n hx hb dX9_writesShaped_25 rfl (lv_at hl 2 rfl) ?_
    obtain ⟨fs0, g81, hM0, hx0, hw⟩ := hw
    refine z_get hC hZ hM0 zc8 40 (by decide) q1760 (fun _ h9 => h9) hx0 dX9_writesShaped_26 ?_
    refine lv_isub hx hb dX9_writesShaped_29 ?_
    refine z_callL hZ (vx_runS (As := [.int (x2 - g81)]) (rest := []) hC.fix (w_X9_tens hlt hw) (va_cwS 1 hts (lw_S q1901 q1902 q83 q1903) rfl rfl rfl dd_X9_tens ⟨Nat.le_of_ble_eq_true rfl, Nat.le_of_ble_eq_true rfl⟩) (z_preS hC hZ) rfl rfl hl.1 rfl (lv_room (Nat.zero_le _)) dX9_writesShaped_30 ⟨hk, hn⟩) (fun r82 M H locs hw1 hZ => ?_) (fun q M H locs ci fs E T9 N9 hw hZ hc1 hM1 hb1 => False.elim hw)
    replace hw := hw1
    clear hw1
    refine W.cs (cells' := cells) (slots' := slots) rfl rfl ?_
    refine lv_lstore (i := 6) (lv' := [(6, .long r82), (5, .int x2), (3, .long y0), (0, .ref o), (1, .int x1), (2, .int x2)]) hx hb dX9_writesShaped_33 hl (by decide) rfl (fun ls hl1 => ?_)
    replace hl := hl1
    clear hl1
    refine lv_lload_n hx hb dX9_writesShaped_35 rfl (lv_at hl 2 rfl) ?_
    refine lv_lload hx hb dX9_writesShaped_36 (lv_at hl 0 rfl) ?_
    obtain ⟨hz0, hw⟩ := hw
    refine lv_lrem hx hb dX9_writesShaped_38 hz0 ?_
    refine lv_lstore (i := 8) (lv' := [(8, .long (y0 - y0 / r82 * r82)), (6, .long r82), (5, .int x2), (3, .long y0), (0, .ref o), (1, .int x1), (2, .int x2)]) hx hb dX9_writesShaped_39 hl (by decide) rfl (fun ls hl1 => ?_)
    replace hl := hl1
    clear hl1
    refine lv_lload_n hx hb dX9_writesShaped_41 rfl (lv_at hl 3 rfl) ?_
    refine lv_lload hx hb dX9_writesShaped_42 (lv_at hl 1 rfl) ?_
    obtain ⟨hz0, hw⟩ := hw
    refine lv_ldiv hx hb dX9_writesShaped_44 hz0 ?_
    refine lv_lstore_n (i := 3) (lv' := [(3, .long (y0 / r82)), (8, .long (y0 - y0 / r82 * r82)), (6, .long r82), (5, .int x2), (0, .ref o), (1, .int x1), (2, .int x2)]) hx hb dX9_writesShaped_45 rfl hl (by decide) rfl (fun ls hl1 => ?_)
    replace hl := hl1
    clear hl1
    refine lv_lload_n hx hb dX9_writesShaped_46 rfl (lv_at hl 0 rfl) ?_
    refine lv_ldc2 hx hb hown (hts _ q1931) dX9_writesShaped_47 ?_
    refine lv_lload hx hb dX9_writesShaped_50 (lv_at hl 1 rfl) ?_
    refine lv_lmul hx hb dX9_writesShaped_52 ?_
    refine lv_lload hx hb dX9_writesShaped_53 (lv_at hl 2 rfl) ?_
    refine W.lcmp hx hb dX9_writesShaped_55 ?_
    refine lv_if_gt (tgt := 81) hx hb dX9_writesShaped_56 (by decide) (fun c87 => ?_) (fun c87 => ?_)
    · replace hw := hw.1 c87
      exact wk_X9_writesShaped_L81 hG _ _ _ hk hn hZ (lv_sub hl [4, 5] rfl) hw
    · replace hw := hw.2 c87
      refine lv_ldc2 hx hb hown (hts _ q1931) dX9_writesShaped_59 ?_
      refine lv_lload hx hb dX9_writesShaped_62 (lv_at hl 1 rfl) ?_
      refine lv_lmul hx hb dX9_writesShaped_64 ?_
      refine lv_lload hx hb dX9_writesShaped_65 (lv_at hl 2 rfl) ?_
      refine W.lcmp hx hb dX9_writesShaped_67 ?_
      refine lv_if_ne (tgt := 85) hx hb dX9_writesShaped_68 (by decide) (fun c86 => ?_) (fun c86 => ?_)
      · replace hw := hw.1 c86
        exact wk_X9_writesShaped_L85 hG _ _ _ hk hn hZ (lv_sub hl [4, 5] rfl) hw
      · replace hw := hw.2 c86
        refine lv_lload_n hx hb dX9_writesShaped_71 rfl (lv_at hl 0 rfl) ?_
        refine lv_ldc2 hx hb hown (hts _ q1931) dX9_writesShaped_72 ?_
        refine lv_lrem hx hb dX9_writesShaped_75 (by decide) ?_
        refine lv_lconst (v := 1) hx hb dX9_writesShaped_76 (by decide) ?_
        refine W.lcmp hx hb dX9_writesShaped_77 ?_
        refine lv_if_ne (tgt := 85) hx hb dX9_writesShaped_78 (by decide) (fun c85 => ?_) (fun c85 => ?_)
        · replace hw := hw.1 c85
          exact wk_X9_writesShaped_L85 hG _ _ _ hk hn hZ (lv_sub hl [4, 5] rfl) hw
        · replace hw := hw.2 c85
          exact wk_X9_writesShaped_L81 hG _ _ _ hk hn hZ (lv_sub hl [4, 5] rfl) hw
def wp_X9_writesShaped (D : zD) (post : Unit → zM → Prop) (o : Nat) (a0 : Int32) (a1 : Int32) (M : zM) : Prop :=
    ((0 ≤ a0 → wp_X9_writesShaped_L12 D post o a0 a1 (a0.toInt64) M) ∧ (¬ 0 ≤ a0 → wp_X9_writesShaped_L12 D post o a0 a1 (-(a0.toInt64)) M))
set_option maxHeartbeats 4000000 in
set_option maxRecDepth 100000 in
theorem w_X9_writesShaped {l : Launch} {D : zD} {post : Unit → zM → Prop} (hlt : l.stackTraces = false) {o : Nat} {a0 : Int32} {a1 : Int32} {M : zM} (hw : wp_X9_writesShaped D post o a0 a1 M) : zMet l D yX9_writesShaped (ws_ yX9_writesShaped cX9_writesShaped 10 (none)) rm_X9_writesShaped 0 0 [.ref o, .int a0, .int a1] M zU post (fun _ _ => False) := by
  unfold wp_X9_writesShaped at hw
  have hlv : lv_args 0 [.ref o, .int a0, .int a1] = [(0, .ref o), (1, .int a0), (2, .int a1)] := (zargs1 rfl (zargs1 rfl (zargs1 rfl rfl)))
  refine z_ofW hlt (by decide) (Nat.le_trans (zsl1 rfl (zsl1 rfl (zsl1 rfl (Nat.le_refl 0 : (lg_sl []).length ≤ 0)))) (Nat.le_of_ble_eq_true rfl)) hlv ?_
  intro p e s m args below meth c ls hG hZ hl
  have hC := hG.1
  have hx := hC.x
  have hb := hC.b
  have hown := hC.o
  have hts := hC.ts
  have hlt := hG.2.2.2.2.2
  obtain ⟨cells, hce⟩ : ∃ z : Nat, z = 0 := ⟨0, rfl⟩
  obtain ⟨slots, hsl⟩ : ∃ z : Nat, z = 0 := ⟨0, rfl⟩
  refine W.cs (cells' := cells) (slots' := slots) hce.symm hsl.symm ?_
  have hk : cells ≤ 0 := Nat.le_of_eq hce
  have hn : slots ≤ 0 := Nat.le_of_eq hsl
  clear hce hsl
  refine lv_iload_n hx hb dX9_writesShaped_0 rfl (lv_at hl 1 rfl) ?_
  refine lv_if_ge (tgt := 10) hx hb dX9_writesShaped_1 (by decide) (fun c90 => ?_) (fun c90 => ?_)
  · replace hw := hw.1 c90
    refine lv_iload_n hx hb dX9_writesShaped_10 rfl (lv_at hl 1 rfl) ?_
    refine lv_i2l hx hb dX9_writesShaped_11 rfl ?_
    exact wk_X9_writesShaped_L12 hG _ _ _ _ hk hn hZ (lv_sub hl [0, 1, 2] rfl) hw
  · replace hw := hw.2 c90
    refine lv_iload_n hx hb dX9_writesShaped_4 rfl (lv_at hl 1 rfl) ?_
    refine lv_i2l hx hb dX9_writesShaped_5 rfl ?_
    refine lv_lneg hx hb dX9_writesShaped_6 ?_
    refine lv_goto (tgt := 12) hx hb dX9_writesShaped_7 (by decide) ?_
    exact wk_X9_writesShaped_L12 hG _ _ _ _ hk hn hZ (lv_sub hl [0, 1, 2] rfl) hw
abbrev rm_X9_shape : Room := { frames := 4, cells := 0, slots := 0, locals := 140 }
def wp_X9_shape_L69 (D : zD) (post : Int32 → zM → Prop) (o : Nat) (M : zM) : Prop :=
    post (-1 : Int32) M
set_option maxHeartbeats 4000000 in
set_option maxRecDepth 100000 in
theorem wk_X9_shape_L69 {p : Program} {l : Launch} {e : Env} {s : State} {m : MethodId} {args : Array Value} {below : List Frame} {meth : Method} {c : Code} {D : zD} {post : Int32 → zM → Prop} {o : Nat} (hG : zGx p l s m args meth c cX9_shape 8 "PluralBranchesModel" D (some .int) "shape" []) : ∀ {H : Heap} {locs : List Loc} {cells slots : Nat} {ls : Array Slot} (M : zM), cells ≤ 0 → slots ≤ 0 → zS D M H locs → lv_has ls 8 [] → wp_X9_shape_L69 D post o M → W p l e rm_X9_shape s m args below meth c H locs cells slots (vx_MQ below (zQ D zI post) (zX D (fun _ _ => False)) args s 0 0 (zA D)) (F0 m 69 ls []) := by
  have hC := hG.1
  have hx := hC.x
  have hb := hC.b
  have hown := hC.o
  have hts := hC.ts
  have hlt := hG.2.2.2.2.2
  intro H locs cells slots ls M hk hn hZ hl hw
  refine lv_iconst (v := (-1)) hx hb dX9_shape_69 (by decide) ?_
  exact z_iret hG hZ hk hn hw dX9_shape_70
def wp_X9_shape (D : zD) (post : Int32 → zM → Prop) (o : Nat) (a0 : Int32) (a1 : Int32) (a2 : Int32) (a3 : Int32) (a4 : Int32) (a5 : Int32) (a6 : Int32) (M : zM) : Prop :=
    (wp_X9_isLanguage D (fun r1 M => ((r1 = 0 → wp_X9_shape_L69 D post o M) ∧ (¬ r1 = 0 → (wp_X9_in D (fun r4 M => ((r4 = 0 → wp_X9_shape_L69 D post o M) ∧ (¬ r4 = 0 → (wp_X9_in D (fun r7 M => ((r7 = 0 → wp_X9_shape_L69 D post o M) ∧ (¬ r7 = 0 → (wp_X9_in D (fun r10 M => ((r10 = 0 → wp_X9_shape_L69 D post o M) ∧ (¬ r10 = 0 → (wp_X9_in D (fun r13 M => ((r13 = 0 → wp_X9_shape_L69 D post o M) ∧ (¬ r13 = 0 → (wp_X9_in D (fun r16 M => ((¬ r16 = 0 → (zp D M o 8 48 (.int (0 : Int32)) fun M => (zp D M o 8 49 (.int a0) fun M => (zp D M o 8 38 (.int a3) fun M => (zp D M o 8 39 (.int a4) fun M => (zp D M o 8 40 (.int (a4 + a5)) fun M => (zp D M o 8 37 (.int a6) fun M => ((zis M o [8] ∧ wp_X9_writesShaped D (fun _ M => ((zis M o [8] ∧ wp_X9_puts D (fun r22 M => post r22 M) o M))) o a1 a2 M))))))))) ∧ (r16 = 0 → wp_X9_shape_L69 D post o M))) (a6.toInt64) (0 : Int64) (1 : Int64) M)))) (a5.toInt64) (0 : Int64) (3 : Int64) M)))) (a4.toInt64) (0 : Int64) (3 : Int64) M)))) (a3.toInt64) (1 : Int64) (4 : Int64) M)))) (a2.toInt64) (0 : Int64) (6 : Int64) M)))) a0 M)
set_option maxHeartbeats 4000000 in
set_option maxRecDepth 100000 in
theorem w_X9_shape {l : Launch} {D : zD} {post : Int32 → zM → Prop} (hlt : l.stackTraces = false) {o : Nat} {a0 : Int32} {a1 : Int32} {a2 : Int32} {a3 : Int32} {a4 : Int32} {a5 : Int32} {a6 : Int32} {M : zM} (hw : wp_X9_shape D post o a0 a1 a2 a3 a4 a5 a6 M) : zMet l D yX9_shape (ws_ yX9_shape cX9_shape 8 (some .int)) rm_X9_shape 0 0 [.ref o, .int a0, .int a1, .int a2, .int a3, .int a4, .int a5, .int a6] M zI post (fun _ _ => False) := by
  unfold wp_X9_shape at hw
  have hlv : lv_args 0 [.ref o, .int a0, .int a1, .int a2, .int a3, .int a4, .int a5, .int a6] = [(0, .ref o), (1, .int a0), (2, .int a1), (3, .int a2), (4, .int a3), (5, .int a4), (6, .int a5), (7, .int a6)] := (zargs1 rfl (zargs1 rfl (zargs1 rfl (zargs1 rfl (zargs1 rfl (zargs1 rfl (zargs1 rfl (zargs1 rfl rfl))))))))
  refine z_ofW hlt (by decide) (Nat.le_trans (zsl1 rfl (zsl1 rfl (zsl1 rfl (zsl1 rfl (zsl1 rfl (zsl1 rfl (zsl1 rfl (zsl1 rfl (Nat.le_refl 0 : (lg_sl []).length ≤ 0))))))))) (Nat.le_of_ble_eq_true rfl)) hlv ?_
  intro p e s m args below meth c ls hG hZ hl
  have hC := hG.1
  have hx := hC.x
  have hb := hC.b
  have hown := hC.o
  have hts := hC.ts
  have hlt := hG.2.2.2.2.2
  obtain ⟨cells, hce⟩ : ∃ z : Nat, z = 0 := ⟨0, rfl⟩
  obtain ⟨slots, hsl⟩ : ∃ z : Nat, z = 0 := ⟨0, rfl⟩
  refine W.cs (cells' := cells) (slots' := slots) hce.symm hsl.symm ?_
  have hk : cells ≤ 0 := Nat.le_of_eq hce
  have hn : slots ≤ 0 := Nat.le_of_eq hsl
  clear hce hsl
  refine lv_iload_n hx hb dX9_shape_0 rfl (lv_at hl 1 rfl) ?_
  refine z_callI hZ (vx_runS (As := [.int a0]) (rest := []) hC.fix (w_X9_isLanguage hlt hw) (va_cwS 1 hts (lw_S q1919 q1920 q83 q1921) rfl rfl rfl dd_X9_isLanguage ⟨Nat.le_of_ble_eq_true rfl, Nat.le_of_ble_eq_true rfl⟩) (z_preS hC hZ) rfl rfl hl.1 rfl (lv_room (Nat.zero_le _)) dX9_shape_1 ⟨hk, hn⟩) (fun r37 M H locs hw1 hZ => ?_) (fun q M H locs ci fs E T9 N9 hw hZ hc1 hM1 hb1 => False.elim hw)
  replace hw := hw1
  clear hw1
  refine W.cs (cells' := cells) (slots' := slots) rfl rfl ?_
  refine lv_if_eq (tgt := 69) hx hb dX9_shape_4 (by decide) (fun c72 => ?_) (fun c72 => ?_)
  · replace hw := hw.1 c72
    exact wk_X9_shape_L69 hG _ hk hn hZ (lv_sub hl [] rfl) hw
  · replace hw := hw.2 c72
    refine lv_iload_n hx hb dX9_shape_7 rfl (lv_at hl 3 rfl) ?_
    refine lv_i2l hx hb dX9_shape_8 rfl ?_
    refine lv_lconst (v := 0) hx hb dX9_shape_9 (by decide) ?_
    refine lv_ldc2 hx hb hown (hts _ q1893) dX9_shape_10 ?_
    refine z_callI hZ (vx_runS (As := [.long (a2.toInt64), .long (0 : Int64), .long (6 : Int64)]) (rest := []) hC.fix (w_X9_in hlt hw) (va_cwS 3 hts (lw_S q1894 q1895 q83 q1896) rfl rfl rfl dd_X9_in ⟨Nat.le_of_ble_eq_true rfl, Nat.le_of_ble_eq_true rfl⟩) (z_preS hC hZ) rfl rfl hl.1 rfl (lv_room (Nat.zero_le _)) dX9_shape_13 ⟨hk, hn⟩) (fun r40 M H locs hw1 hZ => ?_) (fun q M H locs ci fs E T9 N9 hw hZ hc1 hM1 hb1 => False.elim hw)
    replace hw := hw1
    clear hw1
    refine W.cs (cells' := cells) (slots' := slots) rfl rfl ?_
    refine lv_if_eq (tgt := 69) hx hb dX9_shape_16 (by decide) (fun c71 => ?_) (fun c71 => ?_)
    · replace hw := hw.1 c71
      exact wk_X9_shape_L69 hG _ hk hn hZ (lv_sub hl [] rfl) hw
    · replace hw := hw.2 c71
      refine lv_iload hx hb dX9_shape_19 (lv_at hl 4 rfl) ?_
      refine lv_i2l hx hb dX9_shape_21 rfl ?_
      refine lv_lconst (v := 1) hx hb dX9_shape_22 (by decide) ?_
      refine lv_ldc2 hx hb hown (hts _ q1897) dX9_shape_23 ?_
      refine z_callI hZ (vx_runS (As := [.long (a3.toInt64), .long (1 : Int64), .long (4 : Int64)]) (rest := []) hC.fix (w_X9_in hlt hw) (va_cwS 3 hts (lw_S q1894 q1895 q83 q1896) rfl rfl rfl dd_X9_in ⟨Nat.le_of_ble_eq_true rfl, Nat.le_of_ble_eq_true rfl⟩) (z_preS hC hZ) rfl rfl hl.1 rfl (lv_room (Nat.zero_le _)) dX9_shape_26 ⟨hk, hn⟩) (fun r43 M H locs hw1 hZ => ?_) (fun q M H locs ci fs E T9 N9 hw hZ hc1 hM1 hb1 => False.elim hw)
      replace hw := hw1
      clear hw1
      refine W.cs (cells' := cells) (slots' := slots) rfl rfl ?_
      refine lv_if_eq (tgt := 69) hx hb dX9_shape_29 (by decide) (fun c70 => ?_) (fun c70 => ?_)
      · replace hw := hw.1 c70
        exact wk_X9_shape_L69 hG _ hk hn hZ (lv_sub hl [] rfl) hw
      · replace hw := hw.2 c70
        refine lv_iload hx hb dX9_shape_32 (lv_at hl 5 rfl) ?_
        refine lv_i2l hx hb dX9_shape_34 rfl ?_
        refine lv_lconst (v := 0) hx hb dX9_shape_35 (by decide) ?_
        refine lv_ldc2 hx hb hown (hts _ q1936) dX9_shape_36 ?_
        refine z_callI hZ (vx_runS (As := [.long (a4.toInt64), .long (0 : Int64), .long (3 : Int64)]) (rest := []) hC.fix (w_X9_in hlt hw) (va_cwS 3 hts (lw_S q1894 q1895 q83 q1896) rfl rfl rfl dd_X9_in ⟨Nat.le_of_ble_eq_true rfl, Nat.le_of_ble_eq_true rfl⟩) (z_preS hC hZ) rfl rfl hl.1 rfl (lv_room (Nat.zero_le _)) dX9_shape_39 ⟨hk, hn⟩) (fun r46 M H locs hw1 hZ => ?_) (fun q M H locs ci fs E T9 N9 hw hZ hc1 hM1 hb1 => False.elim hw)
        replace hw := hw1
        clear hw1
        refine W.cs (cells' := cells) (slots' := slots) rfl rfl ?_
        refine lv_if_eq (tgt := 69) hx hb dX9_shape_42 (by decide) (fun c69 => ?_) (fun c69 => ?_)
        · replace hw := hw.1 c69
          exact wk_X9_shape_L69 hG _ hk hn hZ (lv_sub hl [] rfl) hw
        · replace hw := hw.2 c69
          refine lv_iload hx hb dX9_shape_45 (lv_at hl 6 rfl) ?_
          refine lv_i2l hx hb dX9_shape_47 rfl ?_
          refine lv_lconst (v := 0) hx hb dX9_shape_48 (by decide) ?_
          refine lv_ldc2 hx hb hown (hts _ q1936) dX9_shape_49 ?_
          refine z_callI hZ (vx_runS (As := [.long (a5.toInt64), .long (0 : Int64), .long (3 : Int64)]) (rest := []) hC.fix (w_X9_in hlt hw) (va_cwS 3 hts (lw_S q1894 q1895 q83 q1896) rfl rfl rfl dd_X9_in ⟨Nat.le_of_ble_eq_true rfl, Nat.le_of_ble_eq_true rfl⟩) (z_preS hC hZ) rfl rfl hl.1 rfl (lv_room (Nat.zero_le _)) dX9_shape_52 ⟨hk, hn⟩) (fun r49 M H locs hw1 hZ => ?_) (fun q M H locs ci fs E T9 N9 hw hZ hc1 hM1 hb1 => False.elim hw)
          replace hw := hw1
          clear hw1
          refine W.cs (cells' := cells) (slots' := slots) rfl rfl ?_
          refine lv_if_eq (tgt := 69) hx hb dX9_shape_55 (by decide) (fun c68 => ?_) (fun c68 => ?_)
          · replace hw := hw.1 c68
            exact wk_X9_shape_L69 hG _ hk hn hZ (lv_sub hl [] rfl) hw
          · replace hw := hw.2 c68
            refine lv_iload hx hb dX9_shape_58 (lv_at hl 7 rfl) ?_
            refine lv_i2l hx hb dX9_shape_60 rfl ?_
            refine lv_lconst (v := 0) hx hb dX9_shape_61 (by decide) ?_
            refine lv_lconst (v := 1) hx hb dX9_shape_62 (by decide) ?_
            refine z_callI hZ (vx_runS (As := [.long (a6.toInt64), .long (0 : Int64), .long (1 : Int64)]) (rest := []) hC.fix (w_X9_in hlt hw) (va_cwS 3 hts (lw_S q1894 q1895 q83 q1896) rfl rfl rfl dd_X9_in ⟨Nat.le_of_ble_eq_true rfl, Nat.le_of_ble_eq_true rfl⟩) (z_preS hC hZ) rfl rfl hl.1 rfl (lv_room (Nat.zero_le _)) dX9_shape_63 ⟨hk, hn⟩) (fun r52 M H locs hw1 hZ => ?_) (fun q M H locs ci fs E T9 N9 hw hZ hc1 hM1 hb1 => False.elim hw)
            replace hw := hw1
            clear hw1
            refine W.cs (cells' := cells) (slots' := slots) rfl rfl ?_
            refine lv_if_ne (tgt := 71) hx hb dX9_shape_66 (by decide) (fun c67 => ?_) (fun c67 => ?_)
            · replace hw := hw.1 c67
              refine lv_aload_n hx hb dX9_shape_71 rfl (lv_at hl 0 rfl) ?_
              refine lv_iconst (v := 0) hx hb dX9_shape_72 (by decide) ?_
              obtain ⟨fs0, hM0, hb0, hk0, hw⟩ := hw
              refine z_put hC hZ hM0 hb0 zc8 48 (by decide) q1768 (fun _ h9 => h9) (by decide) rfl rfl hk0 dX9_shape_73 (fun H locs hZ => ?_)
              generalize zu M _ _ = M at hw hZ
              refine lv_aload_n hx hb dX9_shape_76 rfl (lv_at hl 0 rfl) ?_
              refine lv_iload_n hx hb dX9_shape_77 rfl (lv_at hl 1 rfl) ?_
              obtain ⟨fs0, hM0, hb0, hk0, hw⟩ := hw
              refine z_put hC hZ hM0 hb0 zc8 49 (by decide) q1769 (fun _ h9 => h9) (by decide) rfl rfl hk0 dX9_shape_78 (fun H locs hZ => ?_)
              generalize zu M _ _ = M at hw hZ
              refine lv_aload_n hx hb dX9_shape_81 rfl (lv_at hl 0 rfl) ?_
              refine lv_iload hx hb dX9_shape_82 (lv_at hl 4 rfl) ?_
              obtain ⟨fs0, hM0, hb0, hk0, hw⟩ := hw
              refine z_put hC hZ hM0 hb0 zc8 38 (by decide) q1758 (fun _ h9 => h9) (by decide) rfl rfl hk0 dX9_shape_84 (fun H locs hZ => ?_)
              generalize zu M _ _ = M at hw hZ
              refine lv_aload_n hx hb dX9_shape_87 rfl (lv_at hl 0 rfl) ?_
              refine lv_iload hx hb dX9_shape_88 (lv_at hl 5 rfl) ?_
              obtain ⟨fs0, hM0, hb0, hk0, hw⟩ := hw
              refine z_put hC hZ hM0 hb0 zc8 39 (by decide) q1759 (fun _ h9 => h9) (by decide) rfl rfl hk0 dX9_shape_90 (fun H locs hZ => ?_)
              generalize zu M _ _ = M at hw hZ
              refine lv_aload_n hx hb dX9_shape_93 rfl (lv_at hl 0 rfl) ?_
              refine lv_iload hx hb dX9_shape_94 (lv_at hl 5 rfl) ?_
              refine lv_iload hx hb dX9_shape_96 (lv_at hl 6 rfl) ?_
              refine lv_iadd hx hb dX9_shape_98 ?_
              obtain ⟨fs0, hM0, hb0, hk0, hw⟩ := hw
              refine z_put hC hZ hM0 hb0 zc8 40 (by decide) q1760 (fun _ h9 => h9) (by decide) rfl rfl hk0 dX9_shape_99 (fun H locs hZ => ?_)
              generalize zu M _ _ = M at hw hZ
              refine lv_aload_n hx hb dX9_shape_102 rfl (lv_at hl 0 rfl) ?_
              refine lv_iload hx hb dX9_shape_103 (lv_at hl 7 rfl) ?_
              obtain ⟨fs0, hM0, hb0, hk0, hw⟩ := hw
              refine z_put hC hZ hM0 hb0 zc8 37 (by decide) q1757 (fun _ h9 => h9) (by decide) rfl rfl hk0 dX9_shape_105 (fun H locs hZ => ?_)
              generalize zu M _ _ = M at hw hZ
              refine lv_aload_n hx hb dX9_shape_108 rfl (lv_at hl 0 rfl) ?_
              refine lv_iload_n hx hb dX9_shape_109 rfl (lv_at hl 2 rfl) ?_
              refine lv_iload_n hx hb dX9_shape_110 rfl (lv_at hl 3 rfl) ?_
              obtain ⟨⟨ci0, fs0, hci0, hM0⟩, hw⟩ := hw
              obtain rfl : ci0 = 8 := List.mem_singleton.mp hci0
              refine z_callU hZ (vx_runV (As := [.int a1, .int a2]) (rest := []) hC.fix (w_X9_writesShaped hlt hw) (cwV 2 hts (lw_V q2182 q2184 qs60 q83 q2185) rfl rfl rfl ⟨rfl, dd_X9_writesShaped⟩ ⟨Nat.le_of_ble_eq_true rfl, Nat.le_of_ble_eq_true rfl⟩) (z_preV hC hZ hM0 zc8) rfl rfl hl.1 rfl (lv_room (Nat.zero_le _)) dX9_shape_111 ⟨hk, hn⟩) (fun r55 M H locs hw1 hZ => ?_) (fun q M H locs ci fs E T9 N9 hw hZ hc1 hM1 hb1 => False.elim hw)
              replace hw := hw1
              clear hw1
              refine W.cs (cells' := cells) (slots' := slots) rfl rfl ?_
              refine lv_aload_n hx hb dX9_shape_114 rfl (lv_at hl 0 rfl) ?_
              obtain ⟨⟨ci0, fs0, hci0, hM0⟩, hw⟩ := hw
              obtain rfl : ci0 = 8 := List.mem_singleton.mp hci0
              refine z_callI hZ (vx_runV (As := []) (rest := []) hC.fix (w_X9_puts hlt hw) (cwV 0 hts (lw_V q2198 q2200 qs64 q83 q2201) rfl rfl rfl ⟨rfl, dd_X9_puts⟩ ⟨Nat.le_of_ble_eq_true rfl, Nat.le_of_ble_eq_true rfl⟩) (z_preV hC hZ hM0 zc8) rfl rfl hl.1 rfl (lv_room (Nat.zero_le _)) dX9_shape_115 ⟨hk, hn⟩) (fun r58 M H locs hw1 hZ => ?_) (fun q M H locs ci fs E T9 N9 hw hZ hc1 hM1 hb1 => False.elim hw)
              replace hw := hw1
              clear hw1
              refine W.cs (cells' := cells) (slots' := slots) rfl rfl ?_
              exact z_iret hG hZ hk hn hw dX9_shape_118
            · replace hw := hw.2 c67
              exact wk_X9_shape_L69 hG _ hk hn hZ (lv_sub hl [] rfl) hw
abbrev rm_X9_shapes : Room := { frames := 1, cells := 0, slots := 0, locals := 64 }
def wp_X9_shapes_L152 (D : zD) (post : Unit → zM → Prop) (o : Nat) (M : zM) : Prop :=
    post () M
set_option maxHeartbeats 4000000 in
set_option maxRecDepth 100000 in
theorem wk_X9_shapes_L152 {p : Program} {l : Launch} {e : Env} {s : State} {m : MethodId} {args : Array Value} {below : List Frame} {meth : Method} {c : Code} {D : zD} {post : Unit → zM → Prop} {o : Nat} (hG : zGx p l s m args meth c cX9_shapes 4 "PluralBranchesModel" D (none) "shapes" []) : ∀ {H : Heap} {locs : List Loc} {cells slots : Nat} {ls : Array Slot} (M : zM), cells ≤ 0 → slots ≤ 0 → zS D M H locs → lv_has ls 4 [] → wp_X9_shapes_L152 D post o M → W p l e rm_X9_shapes s m args below meth c H locs cells slots (vx_MQ below (zQ D zU post) (zX D (fun _ _ => False)) args s 0 0 (zA D)) (F0 m 152 ls []) := by
  have hC := hG.1
  have hx := hC.x
  have hb := hC.b
  have hown := hC.o
  have hts := hC.ts
  have hlt := hG.2.2.2.2.2
  intro H locs cells slots ls M hk hn hZ hl hw
  exact z_vret hG hZ hk hn hw dX9_shapes_152
def wp_X9_shapes_L125 (D : zD) (post : Unit → zM → Prop) (o : Nat) : Nat → Int32 → zM → Prop
  | 0 => fun _ _ => False
  | f + 1 => fun x3 M =>
    (zgR M o 8 10 fun g1 => ((zd g1 fun b2 => zaI M b2 0 x3 fun v3 => ((¬ v3 = (35 : Int32) → wp_X9_shapes_L152 D post o M) ∧ (v3 = (35 : Int32) → (zgI M o 8 40 fun g4 => (zp D M o 8 40 (.int (g4 + (1 : Int32))) fun M => wp_X9_shapes_L125 D post o f (x3 + 1) M)))))))
set_option maxHeartbeats 4000000 in
set_option maxRecDepth 100000 in
theorem wk_X9_shapes_L125 {p : Program} {l : Launch} {e : Env} {s : State} {m : MethodId} {args : Array Value} {below : List Frame} {meth : Method} {c : Code} {D : zD} {post : Unit → zM → Prop} {o : Nat} (hG : zGx p l s m args meth c cX9_shapes 4 "PluralBranchesModel" D (none) "shapes" []) : ∀ (f : Nat), ∀ {H : Heap} {locs : List Loc} {cells slots : Nat} {ls : Array Slot} (x3 : Int32) (M : zM), cells ≤ 0 → slots ≤ 0 → zS D M H locs → lv_has ls 4 [(0, .ref o), (3, .int x3)] → wp_X9_shapes_L125 D post o f x3 M → W p l e rm_X9_shapes s m args below meth c H locs cells slots (vx_MQ below (zQ D zU post) (zX D (fun _ _ => False)) args s 0 0 (zA D)) (F0 m 125 ls []) := by
  have hC := hG.1
  have hx := hC.x
  have hb := hC.b
  have hown := hC.o
  have hts := hC.ts
  have hlt := hG.2.2.2.2.2
  intro f
  induction f with
  | zero =>
    intro H locs cells slots ls x3 M hk hn hZ hl hw
    exact absurd hw (fun h => h)
  | succ f ih =>
    intro H locs cells slots ls x3 M hk hn hZ hl hw
    refine lv_aload_n hx hb dX9_shapes_125 rfl (lv_at hl 0 rfl) ?_
    obtain ⟨fs0, g7, hM0, hx0, hw⟩ := hw
    refine z_get hC hZ hM0 zc8 10 (by decide) q1730 (fun _ h9 => h9) hx0 dX9_shapes_126 ?_
    refine lv_iload_n hx hb dX9_shapes_129 rfl (lv_at hl 1 rfl) ?_
    obtain ⟨b8, hr0, hw⟩ := hw
    subst hr0
    obtain ⟨n0, f0, hM0, hi0, hw⟩ := hw
    refine z_iald hC hZ hM0 hi0 dX9_shapes_130 ?_
    generalize f0 _ = v9 at hw ⊢
    refine lv_bipush (v := 35) hx hb dX9_shapes_131 (by decide) ?_
    refine lv_icmp_ne (tgt := 152) hx hb dX9_shapes_133 (by decide) (fun c12 => ?_) (fun c12 => ?_)
    · replace hw := hw.1 c12
      exact wk_X9_shapes_L152 hG _ hk hn hZ (lv_sub hl [] rfl) hw
    · replace hw := hw.2 c12
      refine lv_aload_n hx hb dX9_shapes_136 rfl (lv_at hl 0 rfl) ?_
      refine lv_dup hx hb dX9_shapes_137 rfl ?_
      obtain ⟨fs0, g10, hM0, hx0, hw⟩ := hw
      refine z_get hC hZ hM0 zc8 40 (by decide) q1760 (fun _ h9 => h9) hx0 dX9_shapes_138 ?_
      refine lv_iconst (v := 1) hx hb dX9_shapes_141 (by decide) ?_
      refine lv_iadd hx hb dX9_shapes_142 ?_
      obtain ⟨fs0, hM0, hb0, hk0, hw⟩ := hw
      refine z_put hC hZ hM0 hb0 zc8 40 (by decide) q1760 (fun _ h9 => h9) (by decide) rfl rfl hk0 dX9_shapes_143 (fun H locs hZ => ?_)
      generalize zu M _ _ = M at hw hZ
      refine lv_iinc (v := (x3 + 1)) (lv' := [(3, .int (x3 + 1)), (0, .ref o)]) hx hb dX9_shapes_146 hl (k := 1) rfl rfl (by decide) rfl (fun ls hl1 => ?_)
      replace hl := hl1
      clear hl1
      refine lv_goto (tgt := 125) hx hb dX9_shapes_149 (by decide) ?_
      exact ih _ _ hk hn hZ (lv_sub hl [1, 0] rfl) hw
def wp_X9_shapes_L90 (D : zD) (post : Unit → zM → Prop) (o : Nat) : Nat → Int32 → zM → Prop
  | 0 => fun _ _ => False
  | f + 1 => fun x3 M =>
    (zgR M o 8 10 fun g13 => ((zd g13 fun b14 => zaI M b14 0 x3 fun v15 => ((¬ v15 = (48 : Int32) → (zgI M o 8 39 fun g16 => (zp D M o 8 40 (.int g16) fun M => (∃ f, wp_X9_shapes_L125 D post o f x3 M)))) ∧ (v15 = (48 : Int32) → (zgI M o 8 39 fun g18 => (zp D M o 8 39 (.int (g18 + (1 : Int32))) fun M => wp_X9_shapes_L90 D post o f (x3 + 1) M)))))))
set_option maxHeartbeats 4000000 in
set_option maxRecDepth 100000 in
theorem wk_X9_shapes_L90 {p : Program} {l : Launch} {e : Env} {s : State} {m : MethodId} {args : Array Value} {below : List Frame} {meth : Method} {c : Code} {D : zD} {post : Unit → zM → Prop} {o : Nat} (hG : zGx p l s m args meth c cX9_shapes 4 "PluralBranchesModel" D (none) "shapes" []) : ∀ (f : Nat), ∀ {H : Heap} {locs : List Loc} {cells slots : Nat} {ls : Array Slot} (x3 : Int32) (M : zM), cells ≤ 0 → slots ≤ 0 → zS D M H locs → lv_has ls 4 [(0, .ref o), (3, .int x3)] → wp_X9_shapes_L90 D post o f x3 M → W p l e rm_X9_shapes s m args below meth c H locs cells slots (vx_MQ below (zQ D zU post) (zX D (fun _ _ => False)) args s 0 0 (zA D)) (F0 m 90 ls []) := by
  have hC := hG.1
  have hx := hC.x
  have hb := hC.b
  have hown := hC.o
  have hts := hC.ts
  have hlt := hG.2.2.2.2.2
  intro f
  induction f with
  | zero =>
    intro H locs cells slots ls x3 M hk hn hZ hl hw
    exact absurd hw (fun h => h)
  | succ f ih =>
    intro H locs cells slots ls x3 M hk hn hZ hl hw
    refine lv_aload_n hx hb dX9_shapes_90 rfl (lv_at hl 0 rfl) ?_
    obtain ⟨fs0, g21, hM0, hx0, hw⟩ := hw
    refine z_get hC hZ hM0 zc8 10 (by decide) q1730 (fun _ h9 => h9) hx0 dX9_shapes_91 ?_
    refine lv_iload_n hx hb dX9_shapes_94 rfl (lv_at hl 1 rfl) ?_
    obtain ⟨b22, hr0, hw⟩ := hw
    subst hr0
    obtain ⟨n0, f0, hM0, hi0, hw⟩ := hw
    refine z_iald hC hZ hM0 hi0 dX9_shapes_95 ?_
    generalize f0 _ = v23 at hw ⊢
    refine lv_bipush (v := 48) hx hb dX9_shapes_96 (by decide) ?_
    refine lv_icmp_ne (tgt := 117) hx hb dX9_shapes_98 (by decide) (fun c28 => ?_) (fun c28 => ?_)
    · replace hw := hw.1 c28
      refine lv_aload_n hx hb dX9_shapes_117 rfl (lv_at hl 0 rfl) ?_
      refine lv_aload_n hx hb dX9_shapes_118 rfl (lv_at hl 0 rfl) ?_
      obtain ⟨fs0, g24, hM0, hx0, hw⟩ := hw
      refine z_get hC hZ hM0 zc8 39 (by decide) q1759 (fun _ h9 => h9) hx0 dX9_shapes_119 ?_
      obtain ⟨fs0, hM0, hb0, hk0, hw⟩ := hw
      refine z_put hC hZ hM0 hb0 zc8 40 (by decide) q1760 (fun _ h9 => h9) (by decide) rfl rfl hk0 dX9_shapes_122 (fun H locs hZ => ?_)
      generalize zu M _ _ = M at hw hZ
      obtain ⟨f1, hw⟩ := hw
      exact wk_X9_shapes_L125 hG f1 _ _ hk hn hZ (lv_sub hl [0, 1] rfl) hw
    · replace hw := hw.2 c28
      refine lv_aload_n hx hb dX9_shapes_101 rfl (lv_at hl 0 rfl) ?_
      refine lv_dup hx hb dX9_shapes_102 rfl ?_
      obtain ⟨fs0, g26, hM0, hx0, hw⟩ := hw
      refine z_get hC hZ hM0 zc8 39 (by decide) q1759 (fun _ h9 => h9) hx0 dX9_shapes_103 ?_
      refine lv_iconst (v := 1) hx hb dX9_shapes_106 (by decide) ?_
      refine lv_iadd hx hb dX9_shapes_107 ?_
      obtain ⟨fs0, hM0, hb0, hk0, hw⟩ := hw
      refine z_put hC hZ hM0 hb0 zc8 39 (by decide) q1759 (fun _ h9 => h9) (by decide) rfl rfl hk0 dX9_shapes_108 (fun H locs hZ => ?_)
      generalize zu M _ _ = M at hw hZ
      refine lv_iinc (v := (x3 + 1)) (lv' := [(3, .int (x3 + 1)), (0, .ref o)]) hx hb dX9_shapes_111 hl (k := 1) rfl rfl (by decide) rfl (fun ls hl1 => ?_)
      replace hl := hl1
      clear hl1
      refine lv_goto (tgt := 90) hx hb dX9_shapes_114 (by decide) ?_
      exact ih _ _ hk hn hZ (lv_sub hl [1, 0] rfl) hw
def wp_X9_shapes_L39 (D : zD) (post : Unit → zM → Prop) (o : Nat) : Nat → Int32 → zM → Prop
  | 0 => fun _ _ => False
  | f + 1 => fun x3 M =>
    (zgR M o 8 10 fun g29 => ((zd g29 fun b30 => zaI M b30 0 x3 fun v31 => ((¬ v31 = (48 : Int32) → (zp D M o 8 39 (.int (0 : Int32)) fun M => (zp D M o 8 40 (.int (0 : Int32)) fun M => (zgR M o 8 10 fun g32 => ((zd g32 fun b33 => zaI M b33 0 x3 fun v34 => ((¬ v34 = (46 : Int32) → wp_X9_shapes_L152 D post o M) ∧ (v34 = (46 : Int32) → (∃ f, wp_X9_shapes_L90 D post o f (x3 + 1) M))))))))) ∧ (v31 = (48 : Int32) → (zgI M o 8 38 fun g38 => (zp D M o 8 38 (.int (g38 + (1 : Int32))) fun M => wp_X9_shapes_L39 D post o f (x3 + 1) M)))))))
set_option maxHeartbeats 4000000 in
set_option maxRecDepth 100000 in
theorem wk_X9_shapes_L39 {p : Program} {l : Launch} {e : Env} {s : State} {m : MethodId} {args : Array Value} {below : List Frame} {meth : Method} {c : Code} {D : zD} {post : Unit → zM → Prop} {o : Nat} (hG : zGx p l s m args meth c cX9_shapes 4 "PluralBranchesModel" D (none) "shapes" []) : ∀ (f : Nat), ∀ {H : Heap} {locs : List Loc} {cells slots : Nat} {ls : Array Slot} (x3 : Int32) (M : zM), cells ≤ 0 → slots ≤ 0 → zS D M H locs → lv_has ls 4 [(0, .ref o), (3, .int x3)] → wp_X9_shapes_L39 D post o f x3 M → W p l e rm_X9_shapes s m args below meth c H locs cells slots (vx_MQ below (zQ D zU post) (zX D (fun _ _ => False)) args s 0 0 (zA D)) (F0 m 39 ls []) := by
  have hC := hG.1
  have hx := hC.x
  have hb := hC.b
  have hown := hC.o
  have hts := hC.ts
  have hlt := hG.2.2.2.2.2
  intro f
  induction f with
  | zero =>
    intro H locs cells slots ls x3 M hk hn hZ hl hw
    exact absurd hw (fun h => h)
  | succ f ih =>
    intro H locs cells slots ls x3 M hk hn hZ hl hw
    refine lv_aload_n hx hb dX9_shapes_39 rfl (lv_at hl 0 rfl) ?_
    obtain ⟨fs0, g41, hM0, hx0, hw⟩ := hw
    refine z_get hC hZ hM0 zc8 10 (by decide) q1730 (fun _ h9 => h9) hx0 dX9_shapes_40 ?_
    refine lv_iload_n hx hb dX9_shapes_43 rfl (lv_at hl 1 rfl) ?_
    obtain ⟨b42, hr0, hw⟩ := hw
    subst hr0
    obtain ⟨n0, f0, hM0, hi0, hw⟩ := hw
    refine z_iald hC hZ hM0 hi0 dX9_shapes_44 ?_
    generalize f0 _ = v43 at hw ⊢
    refine lv_bipush (v := 48) hx hb dX9_shapes_45 (by decide) ?_
    refine lv_icmp_ne (tgt := 66) hx hb dX9_shapes_47 (by decide) (fun c52 => ?_) (fun c52 => ?_)
    · replace hw := hw.1 c52
      refine lv_aload_n hx hb dX9_shapes_66 rfl (lv_at hl 0 rfl) ?_
      refine lv_iconst (v := 0) hx hb dX9_shapes_67 (by decide) ?_
      obtain ⟨fs0, hM0, hb0, hk0, hw⟩ := hw
      refine z_put hC hZ hM0 hb0 zc8 39 (by decide) q1759 (fun _ h9 => h9) (by decide) rfl rfl hk0 dX9_shapes_68 (fun H locs hZ => ?_)
      generalize zu M _ _ = M at hw hZ
      refine lv_aload_n hx hb dX9_shapes_71 rfl (lv_at hl 0 rfl) ?_
      refine lv_iconst (v := 0) hx hb dX9_shapes_72 (by decide) ?_
      obtain ⟨fs0, hM0, hb0, hk0, hw⟩ := hw
      refine z_put hC hZ hM0 hb0 zc8 40 (by decide) q1760 (fun _ h9 => h9) (by decide) rfl rfl hk0 dX9_shapes_73 (fun H locs hZ => ?_)
      generalize zu M _ _ = M at hw hZ
      refine lv_aload_n hx hb dX9_shapes_76 rfl (lv_at hl 0 rfl) ?_
      obtain ⟨fs0, g44, hM0, hx0, hw⟩ := hw
      refine z_get hC hZ hM0 zc8 10 (by decide) q1730 (fun _ h9 => h9) hx0 dX9_shapes_77 ?_
      refine lv_iload_n hx hb dX9_shapes_80 rfl (lv_at hl 1 rfl) ?_
      obtain ⟨b45, hr0, hw⟩ := hw
      subst hr0
      obtain ⟨n0, f0, hM0, hi0, hw⟩ := hw
      refine z_iald hC hZ hM0 hi0 dX9_shapes_81 ?_
      generalize f0 _ = v46 at hw ⊢
      refine lv_bipush (v := 46) hx hb dX9_shapes_82 (by decide) ?_
      refine lv_icmp_ne (tgt := 152) hx hb dX9_shapes_84 (by decide) (fun c47 => ?_) (fun c47 => ?_)
      · replace hw := hw.1 c47
        exact wk_X9_shapes_L152 hG _ hk hn hZ (lv_sub hl [] rfl) hw
      · replace hw := hw.2 c47
        refine lv_iinc (v := (x3 + 1)) (lv' := [(3, .int (x3 + 1)), (0, .ref o)]) hx hb dX9_shapes_87 hl (k := 1) rfl rfl (by decide) rfl (fun ls hl1 => ?_)
        replace hl := hl1
        clear hl1
        obtain ⟨f1, hw⟩ := hw
        exact wk_X9_shapes_L90 hG f1 _ _ hk hn hZ (lv_sub hl [1, 0] rfl) hw
    · replace hw := hw.2 c52
      refine lv_aload_n hx hb dX9_shapes_50 rfl (lv_at hl 0 rfl) ?_
      refine lv_dup hx hb dX9_shapes_51 rfl ?_
      obtain ⟨fs0, g50, hM0, hx0, hw⟩ := hw
      refine z_get hC hZ hM0 zc8 38 (by decide) q1758 (fun _ h9 => h9) hx0 dX9_shapes_52 ?_
      refine lv_iconst (v := 1) hx hb dX9_shapes_55 (by decide) ?_
      refine lv_iadd hx hb dX9_shapes_56 ?_
      obtain ⟨fs0, hM0, hb0, hk0, hw⟩ := hw
      refine z_put hC hZ hM0 hb0 zc8 38 (by decide) q1758 (fun _ h9 => h9) (by decide) rfl rfl hk0 dX9_shapes_57 (fun H locs hZ => ?_)
      generalize zu M _ _ = M at hw hZ
      refine lv_iinc (v := (x3 + 1)) (lv' := [(3, .int (x3 + 1)), (0, .ref o)]) hx hb dX9_shapes_60 hl (k := 1) rfl rfl (by decide) rfl (fun ls hl1 => ?_)
      replace hl := hl1
      clear hl1
      refine lv_goto (tgt := 39) hx hb dX9_shapes_63 (by decide) ?_
      exact ih _ _ hk hn hZ (lv_sub hl [1, 0] rfl) hw
def wp_X9_shapes_L24 (D : zD) (post : Unit → zM → Prop) (o : Nat) (x3 : Int32) (y0 : Option Nat) (y1 : Int32) (M : zM) : Prop :=
    ((zd y0 fun b53 => zp D M b53 8 37 (.int y1) fun M => (zgI M o 8 37 fun g54 => (zp D M o 8 38 (.int (0 : Int32)) fun M => (∃ f, wp_X9_shapes_L39 D post o f (x3 + g54) M)))))
set_option maxHeartbeats 4000000 in
set_option maxRecDepth 100000 in
theorem wk_X9_shapes_L24 {p : Program} {l : Launch} {e : Env} {s : State} {m : MethodId} {args : Array Value} {below : List Frame} {meth : Method} {c : Code} {D : zD} {post : Unit → zM → Prop} {o : Nat} (hG : zGx p l s m args meth c cX9_shapes 4 "PluralBranchesModel" D (none) "shapes" []) : ∀ {H : Heap} {locs : List Loc} {cells slots : Nat} {ls : Array Slot} (x3 : Int32) (y0 : Option Nat) (y1 : Int32) (M : zM), cells ≤ 0 → slots ≤ 0 → zS D M H locs → lv_has ls 4 [(0, .ref o), (3, .int x3)] → wp_X9_shapes_L24 D post o x3 y0 y1 M → W p l e rm_X9_shapes s m args below meth c H locs cells slots (vx_MQ below (zQ D zU post) (zX D (fun _ _ => False)) args s 0 0 (zA D)) (F0 m 24 ls [.int y1, va_rf y0]) := by
  have hC := hG.1
  have hx := hC.x
  have hb := hC.b
  have hown := hC.o
  have hts := hC.ts
  have hlt := hG.2.2.2.2.2
  intro H locs cells slots ls x3 y0 y1 M hk hn hZ hl hw
  obtain ⟨b57, hr0, hw⟩ := hw
  subst hr0
  obtain ⟨fs0, hM0, hb0, hk0, hw⟩ := hw
  refine z_put hC hZ hM0 hb0 zc8 37 (by decide) q1757 (fun _ h9 => h9) (by decide) rfl rfl hk0 dX9_shapes_24 (fun H locs hZ => ?_)
  generalize zu M _ _ = M at hw hZ
  refine lv_iload_n hx hb dX9_shapes_27 rfl (lv_at hl 1 rfl) ?_
  refine lv_aload_n hx hb dX9_shapes_28 rfl (lv_at hl 0 rfl) ?_
  obtain ⟨fs0, g58, hM0, hx0, hw⟩ := hw
  refine z_get hC hZ hM0 zc8 37 (by decide) q1757 (fun _ h9 => h9) hx0 dX9_shapes_29 ?_
  refine lv_iadd hx hb dX9_shapes_32 ?_
  refine lv_istore_n (i := 3) (lv' := [(3, .int (x3 + g58)), (0, .ref o)]) hx hb dX9_shapes_33 rfl hl (by decide) rfl (fun ls hl1 => ?_)
  replace hl := hl1
  clear hl1
  refine lv_aload_n hx hb dX9_shapes_34 rfl (lv_at hl 1 rfl) ?_
  refine lv_iconst (v := 0) hx hb dX9_shapes_35 (by decide) ?_
  obtain ⟨fs0, hM0, hb0, hk0, hw⟩ := hw
  refine z_put hC hZ hM0 hb0 zc8 38 (by decide) q1758 (fun _ h9 => h9) (by decide) rfl rfl hk0 dX9_shapes_36 (fun H locs hZ => ?_)
  generalize zu M _ _ = M at hw hZ
  obtain ⟨f1, hw⟩ := hw
  exact wk_X9_shapes_L39 hG f1 _ _ hk hn hZ (lv_sub hl [1, 0] rfl) hw
def wp_X9_shapes (D : zD) (post : Unit → zM → Prop) (o : Nat) (a0 : Int32) (a1 : Int32) (M : zM) : Prop :=
    (zgR M o 8 10 fun g61 => ((zd g61 fun b62 => zaI M b62 0 (((120 : Int32) * a0) + a1) fun v63 => ((¬ v63 = (44 : Int32) → wp_X9_shapes_L24 D post o (((120 : Int32) * a0) + a1) (some o) (0 : Int32) M) ∧ (v63 = (44 : Int32) → wp_X9_shapes_L24 D post o (((120 : Int32) * a0) + a1) (some o) (1 : Int32) M)))))
set_option maxHeartbeats 4000000 in
set_option maxRecDepth 100000 in
theorem w_X9_shapes {l : Launch} {D : zD} {post : Unit → zM → Prop} (hlt : l.stackTraces = false) {o : Nat} {a0 : Int32} {a1 : Int32} {M : zM} (hw : wp_X9_shapes D post o a0 a1 M) : zMet l D yX9_shapes (ws_ yX9_shapes cX9_shapes 4 (none)) rm_X9_shapes 0 0 [.ref o, .int a0, .int a1] M zU post (fun _ _ => False) := by
  unfold wp_X9_shapes at hw
  have hlv : lv_args 0 [.ref o, .int a0, .int a1] = [(0, .ref o), (1, .int a0), (2, .int a1)] := (zargs1 rfl (zargs1 rfl (zargs1 rfl rfl)))
  refine z_ofW hlt (by decide) (Nat.le_trans (zsl1 rfl (zsl1 rfl (zsl1 rfl (Nat.le_refl 0 : (lg_sl []).length ≤ 0)))) (Nat.le_of_ble_eq_true rfl)) hlv ?_
  intro p e s m args below meth c ls hG hZ hl
  have hC := hG.1
  have hx := hC.x
  have hb := hC.b
  have hown := hC.o
  have hts := hC.ts
  have hlt := hG.2.2.2.2.2
  obtain ⟨cells, hce⟩ : ∃ z : Nat, z = 0 := ⟨0, rfl⟩
  obtain ⟨slots, hsl⟩ : ∃ z : Nat, z = 0 := ⟨0, rfl⟩
  refine W.cs (cells' := cells) (slots' := slots) hce.symm hsl.symm ?_
  have hk : cells ≤ 0 := Nat.le_of_eq hce
  have hn : slots ≤ 0 := Nat.le_of_eq hsl
  clear hce hsl
  refine lv_bipush (v := 120) hx hb dX9_shapes_0 (by decide) ?_
  refine lv_iload_n hx hb dX9_shapes_2 rfl (lv_at hl 1 rfl) ?_
  refine lv_imul hx hb dX9_shapes_3 ?_
  refine lv_iload_n hx hb dX9_shapes_4 rfl (lv_at hl 2 rfl) ?_
  refine lv_iadd hx hb dX9_shapes_5 ?_
  refine lv_istore_n (i := 3) (lv' := [(3, .int (((120 : Int32) * a0) + a1)), (0, .ref o), (1, .int a0), (2, .int a1)]) hx hb dX9_shapes_6 rfl hl (by decide) rfl (fun ls hl1 => ?_)
  replace hl := hl1
  clear hl1
  refine lv_aload_n hx hb dX9_shapes_7 rfl (lv_at hl 1 rfl) ?_
  refine lv_aload_n hx hb dX9_shapes_8 rfl (lv_at hl 1 rfl) ?_
  obtain ⟨fs0, g65, hM0, hx0, hw⟩ := hw
  refine z_get hC hZ hM0 zc8 10 (by decide) q1730 (fun _ h9 => h9) hx0 dX9_shapes_9 ?_
  refine lv_iload_n hx hb dX9_shapes_12 rfl (lv_at hl 0 rfl) ?_
  obtain ⟨b66, hr0, hw⟩ := hw
  subst hr0
  obtain ⟨n0, f0, hM0, hi0, hw⟩ := hw
  refine z_iald hC hZ hM0 hi0 dX9_shapes_13 ?_
  generalize f0 _ = v67 at hw ⊢
  refine lv_bipush (v := 44) hx hb dX9_shapes_14 (by decide) ?_
  refine lv_icmp_ne (tgt := 23) hx hb dX9_shapes_16 (by decide) (fun c68 => ?_) (fun c68 => ?_)
  · replace hw := hw.1 c68
    refine lv_iconst (v := 0) hx hb dX9_shapes_23 (by decide) ?_
    exact wk_X9_shapes_L24 hG _ _ _ _ hk hn hZ (lv_sub hl [1, 0] rfl) hw
  · replace hw := hw.2 c68
    refine lv_iconst (v := 1) hx hb dX9_shapes_19 (by decide) ?_
    refine lv_goto (tgt := 24) hx hb dX9_shapes_20 (by decide) ?_
    exact wk_X9_shapes_L24 hG _ _ _ _ hk hn hZ (lv_sub hl [1, 0] rfl) hw
abbrev rm_X9_told : Room := { frames := 3, cells := 0, slots := 0, locals := 109 }
def wp_X9_told_L19 (D : zD) (post : Int32 → zM → Prop) (o : Nat) (M : zM) : Prop :=
    post (-1 : Int32) M
set_option maxHeartbeats 4000000 in
set_option maxRecDepth 100000 in
theorem wk_X9_told_L19 {p : Program} {l : Launch} {e : Env} {s : State} {m : MethodId} {args : Array Value} {below : List Frame} {meth : Method} {c : Code} {D : zD} {post : Int32 → zM → Prop} {o : Nat} (hG : zGx p l s m args meth c cX9_told 3 "PluralBranchesModel" D (some .int) "told" []) : ∀ {H : Heap} {locs : List Loc} {cells slots : Nat} {ls : Array Slot} (M : zM), cells ≤ 0 → slots ≤ 0 → zS D M H locs → lv_has ls 3 [] → wp_X9_told_L19 D post o M → W p l e rm_X9_told s m args below meth c H locs cells slots (vx_MQ below (zQ D zI post) (zX D (fun _ _ => False)) args s 0 0 (zA D)) (F0 m 19 ls []) := by
  have hC := hG.1
  have hx := hC.x
  have hb := hC.b
  have hown := hC.o
  have hts := hC.ts
  have hlt := hG.2.2.2.2.2
  intro H locs cells slots ls M hk hn hZ hl hw
  refine lv_iconst (v := (-1)) hx hb dX9_told_19 (by decide) ?_
  exact z_iret hG hZ hk hn hw dX9_told_20
def wp_X9_told_L80 (D : zD) (post : Int32 → zM → Prop) (o : Nat) (y0 : Int32) (M : zM) : Prop :=
    post y0 M
set_option maxHeartbeats 4000000 in
set_option maxRecDepth 100000 in
theorem wk_X9_told_L80 {p : Program} {l : Launch} {e : Env} {s : State} {m : MethodId} {args : Array Value} {below : List Frame} {meth : Method} {c : Code} {D : zD} {post : Int32 → zM → Prop} {o : Nat} (hG : zGx p l s m args meth c cX9_told 3 "PluralBranchesModel" D (some .int) "told" []) : ∀ {H : Heap} {locs : List Loc} {cells slots : Nat} {ls : Array Slot} (y0 : Int32) (M : zM), cells ≤ 0 → slots ≤ 0 → zS D M H locs → lv_has ls 3 [] → wp_X9_told_L80 D post o y0 M → W p l e rm_X9_told s m args below meth c H locs cells slots (vx_MQ below (zQ D zI post) (zX D (fun _ _ => False)) args s 0 0 (zA D)) (F0 m 80 ls [.int y0]) := by
  have hC := hG.1
  have hx := hC.x
  have hb := hC.b
  have hown := hC.o
  have hts := hC.ts
  have hlt := hG.2.2.2.2.2
  intro H locs cells slots ls y0 M hk hn hZ hl hw
  exact z_iret hG hZ hk hn hw dX9_told_80
def wp_X9_told (D : zD) (post : Int32 → zM → Prop) (o : Nat) (a0 : Int32) (a1 : Int32) (M : zM) : Prop :=
    (wp_X9_isSlot D (fun r1 M => ((r1 = 0 → wp_X9_told_L19 D post o M) ∧ (¬ r1 = 0 → (wp_X9_in D (fun r4 M => ((¬ r4 = 0 → (zgR M o 8 9 fun g7 => ((zd g7 fun b8 => zaI M b8 0 a0 fun v9 => ((0 ≤ v9 → ((¬ a1 = 0 → ((¬ a1 = (1 : Int32) → ((¬ a1 = (2 : Int32) → (zgR M o 8 14 fun g10 => ((zd g10 fun b11 => zaI M b11 0 a0 fun v12 => wp_X9_told_L80 D post o v12 M)))) ∧ (a1 = (2 : Int32) → (zgR M o 8 13 fun g13 => ((zd g13 fun b14 => zaI M b14 0 a0 fun v15 => wp_X9_told_L80 D post o v15 M)))))) ∧ (a1 = (1 : Int32) → (zgR M o 8 12 fun g17 => ((zd g17 fun b18 => zaI M b18 0 a0 fun v19 => wp_X9_told_L80 D post o v19 M)))))) ∧ (a1 = 0 → (zgR M o 8 11 fun g21 => ((zd g21 fun b22 => zaI M b22 0 a0 fun v23 => wp_X9_told_L80 D post o v23 M)))))) ∧ (¬ 0 ≤ v9 → post (-2 : Int32) M)))))) ∧ (r4 = 0 → wp_X9_told_L19 D post o M))) (a1.toInt64) (0 : Int64) (3 : Int64) M)))) a0 M)
set_option maxHeartbeats 4000000 in
set_option maxRecDepth 100000 in
theorem w_X9_told {l : Launch} {D : zD} {post : Int32 → zM → Prop} (hlt : l.stackTraces = false) {o : Nat} {a0 : Int32} {a1 : Int32} {M : zM} (hw : wp_X9_told D post o a0 a1 M) : zMet l D yX9_told (ws_ yX9_told cX9_told 3 (some .int)) rm_X9_told 0 0 [.ref o, .int a0, .int a1] M zI post (fun _ _ => False) := by
  unfold wp_X9_told at hw
  have hlv : lv_args 0 [.ref o, .int a0, .int a1] = [(0, .ref o), (1, .int a0), (2, .int a1)] := (zargs1 rfl (zargs1 rfl (zargs1 rfl rfl)))
  refine z_ofW hlt (by decide) (Nat.le_trans (zsl1 rfl (zsl1 rfl (zsl1 rfl (Nat.le_refl 0 : (lg_sl []).length ≤ 0)))) (Nat.le_of_ble_eq_true rfl)) hlv ?_
  intro p e s m args below meth c ls hG hZ hl
  have hC := hG.1
  have hx := hC.x
  have hb := hC.b
  have hown := hC.o
  have hts := hC.ts
  have hlt := hG.2.2.2.2.2
  obtain ⟨cells, hce⟩ : ∃ z : Nat, z = 0 := ⟨0, rfl⟩
  obtain ⟨slots, hsl⟩ : ∃ z : Nat, z = 0 := ⟨0, rfl⟩
  refine W.cs (cells' := cells) (slots' := slots) hce.symm hsl.symm ?_
  have hk : cells ≤ 0 := Nat.le_of_eq hce
  have hn : slots ≤ 0 := Nat.le_of_eq hsl
  clear hce hsl
  refine lv_iload_n hx hb dX9_told_0 rfl (lv_at hl 1 rfl) ?_
  refine z_callI hZ (vx_runS (As := [.int a0]) (rest := []) hC.fix (w_X9_isSlot hlt hw) (va_cwS 1 hts (lw_S q1963 q1964 q83 q1965) rfl rfl rfl dd_X9_isSlot ⟨Nat.le_of_ble_eq_true rfl, Nat.le_of_ble_eq_true rfl⟩) (z_preS hC hZ) rfl rfl hl.1 rfl (lv_room (Nat.zero_le _)) dX9_told_1 ⟨hk, hn⟩) (fun r28 M H locs hw1 hZ => ?_) (fun q M H locs ci fs E T9 N9 hw hZ hc1 hM1 hb1 => False.elim hw)
  replace hw := hw1
  clear hw1
  refine W.cs (cells' := cells) (slots' := slots) rfl rfl ?_
  refine lv_if_eq (tgt := 19) hx hb dX9_told_4 (by decide) (fun c54 => ?_) (fun c54 => ?_)
  · replace hw := hw.1 c54
    exact wk_X9_told_L19 hG _ hk hn hZ (lv_sub hl [] rfl) hw
  · replace hw := hw.2 c54
    refine lv_iload_n hx hb dX9_told_7 rfl (lv_at hl 2 rfl) ?_
    refine lv_i2l hx hb dX9_told_8 rfl ?_
    refine lv_lconst (v := 0) hx hb dX9_told_9 (by decide) ?_
    refine lv_ldc2 hx hb hown (hts _ q1936) dX9_told_10 ?_
    refine z_callI hZ (vx_runS (As := [.long (a1.toInt64), .long (0 : Int64), .long (3 : Int64)]) (rest := []) hC.fix (w_X9_in hlt hw) (va_cwS 3 hts (lw_S q1894 q1895 q83 q1896) rfl rfl rfl dd_X9_in ⟨Nat.le_of_ble_eq_true rfl, Nat.le_of_ble_eq_true rfl⟩) (z_preS hC hZ) rfl rfl hl.1 rfl (lv_room (Nat.zero_le _)) dX9_told_13 ⟨hk, hn⟩) (fun r31 M H locs hw1 hZ => ?_) (fun q M H locs ci fs E T9 N9 hw hZ hc1 hM1 hb1 => False.elim hw)
    replace hw := hw1
    clear hw1
    refine W.cs (cells' := cells) (slots' := slots) rfl rfl ?_
    refine lv_if_ne (tgt := 21) hx hb dX9_told_16 (by decide) (fun c53 => ?_) (fun c53 => ?_)
    · replace hw := hw.1 c53
      refine lv_aload_n hx hb dX9_told_21 rfl (lv_at hl 0 rfl) ?_
      obtain ⟨fs0, g34, hM0, hx0, hw⟩ := hw
      refine z_get hC hZ hM0 zc8 9 (by decide) q1729 (fun _ h9 => h9) hx0 dX9_told_22 ?_
      refine lv_iload_n hx hb dX9_told_25 rfl (lv_at hl 1 rfl) ?_
      obtain ⟨b35, hr0, hw⟩ := hw
      subst hr0
      obtain ⟨n0, f0, hM0, hi0, hw⟩ := hw
      refine z_iald hC hZ hM0 hi0 dX9_told_26 ?_
      generalize f0 _ = v36 at hw ⊢
      refine lv_if_ge (tgt := 33) hx hb dX9_told_27 (by decide) (fun c52 => ?_) (fun c52 => ?_)
      · replace hw := hw.1 c52
        refine lv_iload_n hx hb dX9_told_33 rfl (lv_at hl 2 rfl) ?_
        refine lv_if_ne (tgt := 46) hx hb dX9_told_34 (by decide) (fun c51 => ?_) (fun c51 => ?_)
        · replace hw := hw.1 c51
          refine lv_iload_n hx hb dX9_told_46 rfl (lv_at hl 2 rfl) ?_
          refine lv_iconst (v := 1) hx hb dX9_told_47 (by decide) ?_
          refine lv_icmp_ne (tgt := 60) hx hb dX9_told_48 (by decide) (fun c47 => ?_) (fun c47 => ?_)
          · replace hw := hw.1 c47
            refine lv_iload_n hx hb dX9_told_60 rfl (lv_at hl 2 rfl) ?_
            refine lv_iconst (v := 2) hx hb dX9_told_61 (by decide) ?_
            refine lv_icmp_ne (tgt := 74) hx hb dX9_told_62 (by decide) (fun c43 => ?_) (fun c43 => ?_)
            · replace hw := hw.1 c43
              refine lv_aload_n hx hb dX9_told_74 rfl (lv_at hl 0 rfl) ?_
              obtain ⟨fs0, g37, hM0, hx0, hw⟩ := hw
              refine z_get hC hZ hM0 zc8 14 (by decide) q1734 (fun _ h9 => h9) hx0 dX9_told_75 ?_
              refine lv_iload_n hx hb dX9_told_78 rfl (lv_at hl 1 rfl) ?_
              obtain ⟨b38, hr0, hw⟩ := hw
              subst hr0
              obtain ⟨n0, f0, hM0, hi0, hw⟩ := hw
              refine z_iald hC hZ hM0 hi0 dX9_told_79 ?_
              generalize f0 _ = v39 at hw ⊢
              exact wk_X9_told_L80 hG _ _ hk hn hZ (lv_sub hl [] rfl) hw
            · replace hw := hw.2 c43
              refine lv_aload_n hx hb dX9_told_65 rfl (lv_at hl 0 rfl) ?_
              obtain ⟨fs0, g40, hM0, hx0, hw⟩ := hw
              refine z_get hC hZ hM0 zc8 13 (by decide) q1733 (fun _ h9 => h9) hx0 dX9_told_66 ?_
              refine lv_iload_n hx hb dX9_told_69 rfl (lv_at hl 1 rfl) ?_
              obtain ⟨b41, hr0, hw⟩ := hw
              subst hr0
              obtain ⟨n0, f0, hM0, hi0, hw⟩ := hw
              refine z_iald hC hZ hM0 hi0 dX9_told_70 ?_
              generalize f0 _ = v42 at hw ⊢
              refine lv_goto (tgt := 80) hx hb dX9_told_71 (by decide) ?_
              exact wk_X9_told_L80 hG _ _ hk hn hZ (lv_sub hl [] rfl) hw
          · replace hw := hw.2 c47
            refine lv_aload_n hx hb dX9_told_51 rfl (lv_at hl 0 rfl) ?_
            obtain ⟨fs0, g44, hM0, hx0, hw⟩ := hw
            refine z_get hC hZ hM0 zc8 12 (by decide) q1732 (fun _ h9 => h9) hx0 dX9_told_52 ?_
            refine lv_iload_n hx hb dX9_told_55 rfl (lv_at hl 1 rfl) ?_
            obtain ⟨b45, hr0, hw⟩ := hw
            subst hr0
            obtain ⟨n0, f0, hM0, hi0, hw⟩ := hw
            refine z_iald hC hZ hM0 hi0 dX9_told_56 ?_
            generalize f0 _ = v46 at hw ⊢
            refine lv_goto (tgt := 80) hx hb dX9_told_57 (by decide) ?_
            exact wk_X9_told_L80 hG _ _ hk hn hZ (lv_sub hl [] rfl) hw
        · replace hw := hw.2 c51
          refine lv_aload_n hx hb dX9_told_37 rfl (lv_at hl 0 rfl) ?_
          obtain ⟨fs0, g48, hM0, hx0, hw⟩ := hw
          refine z_get hC hZ hM0 zc8 11 (by decide) q1731 (fun _ h9 => h9) hx0 dX9_told_38 ?_
          refine lv_iload_n hx hb dX9_told_41 rfl (lv_at hl 1 rfl) ?_
          obtain ⟨b49, hr0, hw⟩ := hw
          subst hr0
          obtain ⟨n0, f0, hM0, hi0, hw⟩ := hw
          refine z_iald hC hZ hM0 hi0 dX9_told_42 ?_
          generalize f0 _ = v50 at hw ⊢
          refine lv_goto (tgt := 80) hx hb dX9_told_43 (by decide) ?_
          exact wk_X9_told_L80 hG _ _ hk hn hZ (lv_sub hl [] rfl) hw
      · replace hw := hw.2 c52
        refine lv_bipush (v := (-2)) hx hb dX9_told_30 (by decide) ?_
        exact z_iret hG hZ hk hn hw dX9_told_32
    · replace hw := hw.2 c53
      exact wk_X9_told_L19 hG _ hk hn hZ (lv_sub hl [] rfl) hw
abbrev rm_X9_type : Room := { frames := 3, cells := 0, slots := 0, locals := 109 }
def wp_X9_type_L14 (D : zD) (post : Int32 → zM → Prop) (o : Nat) (M : zM) : Prop :=
    post (-1 : Int32) M
set_option maxHeartbeats 4000000 in
set_option maxRecDepth 100000 in
theorem wk_X9_type_L14 {p : Program} {l : Launch} {e : Env} {s : State} {m : MethodId} {args : Array Value} {below : List Frame} {meth : Method} {c : Code} {D : zD} {post : Int32 → zM → Prop} {o : Nat} (hG : zGx p l s m args meth c cX9_type 3 "PluralBranchesModel" D (some .int) "type" []) : ∀ {H : Heap} {locs : List Loc} {cells slots : Nat} {ls : Array Slot} (M : zM), cells ≤ 0 → slots ≤ 0 → zS D M H locs → lv_has ls 3 [] → wp_X9_type_L14 D post o M → W p l e rm_X9_type s m args below meth c H locs cells slots (vx_MQ below (zQ D zI post) (zX D (fun _ _ => False)) args s 0 0 (zA D)) (F0 m 14 ls []) := by
  have hC := hG.1
  have hx := hC.x
  have hb := hC.b
  have hown := hC.o
  have hts := hC.ts
  have hlt := hG.2.2.2.2.2
  intro H locs cells slots ls M hk hn hZ hl hw
  refine lv_iconst (v := (-1)) hx hb dX9_type_14 (by decide) ?_
  exact z_iret hG hZ hk hn hw dX9_type_15
def wp_X9_type_L40 (D : zD) (post : Int32 → zM → Prop) (o : Nat) (y0 : Int32) (M : zM) : Prop :=
    post y0 M
set_option maxHeartbeats 4000000 in
set_option maxRecDepth 100000 in
theorem wk_X9_type_L40 {p : Program} {l : Launch} {e : Env} {s : State} {m : MethodId} {args : Array Value} {below : List Frame} {meth : Method} {c : Code} {D : zD} {post : Int32 → zM → Prop} {o : Nat} (hG : zGx p l s m args meth c cX9_type 3 "PluralBranchesModel" D (some .int) "type" []) : ∀ {H : Heap} {locs : List Loc} {cells slots : Nat} {ls : Array Slot} (y0 : Int32) (M : zM), cells ≤ 0 → slots ≤ 0 → zS D M H locs → lv_has ls 3 [] → wp_X9_type_L40 D post o y0 M → W p l e rm_X9_type s m args below meth c H locs cells slots (vx_MQ below (zQ D zI post) (zX D (fun _ _ => False)) args s 0 0 (zA D)) (F0 m 40 ls [.int y0]) := by
  have hC := hG.1
  have hx := hC.x
  have hb := hC.b
  have hown := hC.o
  have hts := hC.ts
  have hlt := hG.2.2.2.2.2
  intro H locs cells slots ls y0 M hk hn hZ hl hw
  exact z_iret hG hZ hk hn hw dX9_type_40
def wp_X9_type (D : zD) (post : Int32 → zM → Prop) (o : Nat) (a0 : Int32) (a1 : Int32) (M : zM) : Prop :=
    (wp_X9_isSlot D (fun r1 M => ((r1 = 0 → wp_X9_type_L14 D post o M) ∧ (¬ r1 = 0 → (wp_X9_isArgument D (fun r4 M => ((¬ r4 = 0 → (zgR M o 8 9 fun g7 => ((zd g7 fun b8 => zaI M b8 0 a0 fun v9 => ((0 ≤ v9 → (zgR M o 8 15 fun g10 => ((zd g10 fun b11 => zaI M b11 0 (((5 : Int32) * a0) + a1) fun v12 => wp_X9_type_L40 D post o v12 M)))) ∧ (¬ 0 ≤ v9 → wp_X9_type_L40 D post o (-2 : Int32) M)))))) ∧ (r4 = 0 → wp_X9_type_L14 D post o M))) a1 M)))) a0 M)
set_option maxHeartbeats 4000000 in
set_option maxRecDepth 100000 in
theorem w_X9_type {l : Launch} {D : zD} {post : Int32 → zM → Prop} (hlt : l.stackTraces = false) {o : Nat} {a0 : Int32} {a1 : Int32} {M : zM} (hw : wp_X9_type D post o a0 a1 M) : zMet l D yX9_type (ws_ yX9_type cX9_type 3 (some .int)) rm_X9_type 0 0 [.ref o, .int a0, .int a1] M zI post (fun _ _ => False) := by
  unfold wp_X9_type at hw
  have hlv : lv_args 0 [.ref o, .int a0, .int a1] = [(0, .ref o), (1, .int a0), (2, .int a1)] := (zargs1 rfl (zargs1 rfl (zargs1 rfl rfl)))
  refine z_ofW hlt (by decide) (Nat.le_trans (zsl1 rfl (zsl1 rfl (zsl1 rfl (Nat.le_refl 0 : (lg_sl []).length ≤ 0)))) (Nat.le_of_ble_eq_true rfl)) hlv ?_
  intro p e s m args below meth c ls hG hZ hl
  have hC := hG.1
  have hx := hC.x
  have hb := hC.b
  have hown := hC.o
  have hts := hC.ts
  have hlt := hG.2.2.2.2.2
  obtain ⟨cells, hce⟩ : ∃ z : Nat, z = 0 := ⟨0, rfl⟩
  obtain ⟨slots, hsl⟩ : ∃ z : Nat, z = 0 := ⟨0, rfl⟩
  refine W.cs (cells' := cells) (slots' := slots) hce.symm hsl.symm ?_
  have hk : cells ≤ 0 := Nat.le_of_eq hce
  have hn : slots ≤ 0 := Nat.le_of_eq hsl
  clear hce hsl
  refine lv_iload_n hx hb dX9_type_0 rfl (lv_at hl 1 rfl) ?_
  refine z_callI hZ (vx_runS (As := [.int a0]) (rest := []) hC.fix (w_X9_isSlot hlt hw) (va_cwS 1 hts (lw_S q1963 q1964 q83 q1965) rfl rfl rfl dd_X9_isSlot ⟨Nat.le_of_ble_eq_true rfl, Nat.le_of_ble_eq_true rfl⟩) (z_preS hC hZ) rfl rfl hl.1 rfl (lv_room (Nat.zero_le _)) dX9_type_1 ⟨hk, hn⟩) (fun r16 M H locs hw1 hZ => ?_) (fun q M H locs ci fs E T9 N9 hw hZ hc1 hM1 hb1 => False.elim hw)
  replace hw := hw1
  clear hw1
  refine W.cs (cells' := cells) (slots' := slots) rfl rfl ?_
  refine lv_if_eq (tgt := 14) hx hb dX9_type_4 (by decide) (fun c30 => ?_) (fun c30 => ?_)
  · replace hw := hw.1 c30
    exact wk_X9_type_L14 hG _ hk hn hZ (lv_sub hl [] rfl) hw
  · replace hw := hw.2 c30
    refine lv_iload_n hx hb dX9_type_7 rfl (lv_at hl 2 rfl) ?_
    refine z_callI hZ (vx_runS (As := [.int a1]) (rest := []) hC.fix (w_X9_isArgument hlt hw) (va_cwS 1 hts (lw_S q2030 q2031 q83 q2032) rfl rfl rfl dd_X9_isArgument ⟨Nat.le_of_ble_eq_true rfl, Nat.le_of_ble_eq_true rfl⟩) (z_preS hC hZ) rfl rfl hl.1 rfl (lv_room (Nat.zero_le _)) dX9_type_8 ⟨hk, hn⟩) (fun r19 M H locs hw1 hZ => ?_) (fun q M H locs ci fs E T9 N9 hw hZ hc1 hM1 hb1 => False.elim hw)
    replace hw := hw1
    clear hw1
    refine W.cs (cells' := cells) (slots' := slots) rfl rfl ?_
    refine lv_if_ne (tgt := 16) hx hb dX9_type_11 (by decide) (fun c29 => ?_) (fun c29 => ?_)
    · replace hw := hw.1 c29
      refine lv_aload_n hx hb dX9_type_16 rfl (lv_at hl 0 rfl) ?_
      obtain ⟨fs0, g22, hM0, hx0, hw⟩ := hw
      refine z_get hC hZ hM0 zc8 9 (by decide) q1729 (fun _ h9 => h9) hx0 dX9_type_17 ?_
      refine lv_iload_n hx hb dX9_type_20 rfl (lv_at hl 1 rfl) ?_
      obtain ⟨b23, hr0, hw⟩ := hw
      subst hr0
      obtain ⟨n0, f0, hM0, hi0, hw⟩ := hw
      refine z_iald hC hZ hM0 hi0 dX9_type_21 ?_
      generalize f0 _ = v24 at hw ⊢
      refine lv_if_ge (tgt := 30) hx hb dX9_type_22 (by decide) (fun c28 => ?_) (fun c28 => ?_)
      · replace hw := hw.1 c28
        refine lv_aload_n hx hb dX9_type_30 rfl (lv_at hl 0 rfl) ?_
        obtain ⟨fs0, g25, hM0, hx0, hw⟩ := hw
        refine z_get hC hZ hM0 zc8 15 (by decide) q1735 (fun _ h9 => h9) hx0 dX9_type_31 ?_
        refine lv_iconst (v := 5) hx hb dX9_type_34 (by decide) ?_
        refine lv_iload_n hx hb dX9_type_35 rfl (lv_at hl 1 rfl) ?_
        refine lv_imul hx hb dX9_type_36 ?_
        refine lv_iload_n hx hb dX9_type_37 rfl (lv_at hl 2 rfl) ?_
        refine lv_iadd hx hb dX9_type_38 ?_
        obtain ⟨b26, hr0, hw⟩ := hw
        subst hr0
        obtain ⟨n0, f0, hM0, hi0, hw⟩ := hw
        refine z_iald hC hZ hM0 hi0 dX9_type_39 ?_
        generalize f0 _ = v27 at hw ⊢
        exact wk_X9_type_L40 hG _ _ hk hn hZ (lv_sub hl [] rfl) hw
      · replace hw := hw.2 c28
        refine lv_bipush (v := (-2)) hx hb dX9_type_25 (by decide) ?_
        refine lv_goto (tgt := 40) hx hb dX9_type_27 (by decide) ?_
        exact wk_X9_type_L40 hG _ _ hk hn hZ (lv_sub hl [] rfl) hw
    · replace hw := hw.2 c29
      exact wk_X9_type_L14 hG _ hk hn hZ (lv_sub hl [] rfl) hw
abbrev rm_X9_used : Room := { frames := 7, cells := 0, slots := 0, locals := 223 }
def wp_X9_used_L16 (D : zD) (post : Int32 → zM → Prop) (o : Nat) (y0 : Int32) (M : zM) : Prop :=
    post y0 M
set_option maxHeartbeats 4000000 in
set_option maxRecDepth 100000 in
theorem wk_X9_used_L16 {p : Program} {l : Launch} {e : Env} {s : State} {m : MethodId} {args : Array Value} {below : List Frame} {meth : Method} {c : Code} {D : zD} {post : Int32 → zM → Prop} {o : Nat} (hG : zGx p l s m args meth c cX9_used 2 "PluralBranchesModel" D (some .int) "used" []) : ∀ {H : Heap} {locs : List Loc} {cells slots : Nat} {ls : Array Slot} (y0 : Int32) (M : zM), cells ≤ 0 → slots ≤ 0 → zS D M H locs → lv_has ls 2 [] → wp_X9_used_L16 D post o y0 M → W p l e rm_X9_used s m args below meth c H locs cells slots (vx_MQ below (zQ D zI post) (zX D (fun _ _ => False)) args s 0 0 (zA D)) (F0 m 16 ls [.int y0]) := by
  have hC := hG.1
  have hx := hC.x
  have hb := hC.b
  have hown := hC.o
  have hts := hC.ts
  have hlt := hG.2.2.2.2.2
  intro H locs cells slots ls y0 M hk hn hZ hl hw
  exact z_iret hG hZ hk hn hw dX9_used_16
def wp_X9_used (D : zD) (post : Int32 → zM → Prop) (o : Nat) (a0 : Int32) (M : zM) : Prop :=
    (wp_X9_isLanguage D (fun r1 M => ((r1 = 0 → wp_X9_used_L16 D post o (-1 : Int32) M) ∧ (¬ r1 = 0 → ((zis M o [8] ∧ wp_X9_usedBy D (fun r4 M => wp_X9_used_L16 D post o r4 M) o a0 M))))) a0 M)
set_option maxHeartbeats 4000000 in
set_option maxRecDepth 100000 in
theorem w_X9_used {l : Launch} {D : zD} {post : Int32 → zM → Prop} (hlt : l.stackTraces = false) {o : Nat} {a0 : Int32} {M : zM} (hw : wp_X9_used D post o a0 M) : zMet l D yX9_used (ws_ yX9_used cX9_used 2 (some .int)) rm_X9_used 0 0 [.ref o, .int a0] M zI post (fun _ _ => False) := by
  unfold wp_X9_used at hw
  have hlv : lv_args 0 [.ref o, .int a0] = [(0, .ref o), (1, .int a0)] := (zargs1 rfl (zargs1 rfl rfl))
  refine z_ofW hlt (by decide) (Nat.le_trans (zsl1 rfl (zsl1 rfl (Nat.le_refl 0 : (lg_sl []).length ≤ 0))) (Nat.le_of_ble_eq_true rfl)) hlv ?_
  intro p e s m args below meth c ls hG hZ hl
  have hC := hG.1
  have hx := hC.x
  have hb := hC.b
  have hown := hC.o
  have hts := hC.ts
  have hlt := hG.2.2.2.2.2
  obtain ⟨cells, hce⟩ : ∃ z : Nat, z = 0 := ⟨0, rfl⟩
  obtain ⟨slots, hsl⟩ : ∃ z : Nat, z = 0 := ⟨0, rfl⟩
  refine W.cs (cells' := cells) (slots' := slots) hce.symm hsl.symm ?_
  have hk : cells ≤ 0 := Nat.le_of_eq hce
  have hn : slots ≤ 0 := Nat.le_of_eq hsl
  clear hce hsl
  refine lv_iload_n hx hb dX9_used_0 rfl (lv_at hl 1 rfl) ?_
  refine z_callI hZ (vx_runS (As := [.int a0]) (rest := []) hC.fix (w_X9_isLanguage hlt hw) (va_cwS 1 hts (lw_S q1919 q1920 q83 q1921) rfl rfl rfl dd_X9_isLanguage ⟨Nat.le_of_ble_eq_true rfl, Nat.le_of_ble_eq_true rfl⟩) (z_preS hC hZ) rfl rfl hl.1 rfl (lv_room (Nat.zero_le _)) dX9_used_1 ⟨hk, hn⟩) (fun r8 M H locs hw1 hZ => ?_) (fun q M H locs ci fs E T9 N9 hw hZ hc1 hM1 hb1 => False.elim hw)
  replace hw := hw1
  clear hw1
  refine W.cs (cells' := cells) (slots' := slots) rfl rfl ?_
  refine lv_if_eq (tgt := 15) hx hb dX9_used_4 (by decide) (fun c14 => ?_) (fun c14 => ?_)
  · replace hw := hw.1 c14
    refine lv_iconst (v := (-1)) hx hb dX9_used_15 (by decide) ?_
    exact wk_X9_used_L16 hG _ _ hk hn hZ (lv_sub hl [] rfl) hw
  · replace hw := hw.2 c14
    refine lv_aload_n hx hb dX9_used_7 rfl (lv_at hl 0 rfl) ?_
    refine lv_iload_n hx hb dX9_used_8 rfl (lv_at hl 1 rfl) ?_
    obtain ⟨⟨ci0, fs0, hci0, hM0⟩, hw⟩ := hw
    obtain rfl : ci0 = 8 := List.mem_singleton.mp hci0
    refine z_callI hZ (vx_runV (As := [.int a0]) (rest := []) hC.fix (w_X9_usedBy hlt hw) (cwV 1 hts (lw_V q1946 q1948 qs31 q83 q1949) rfl rfl rfl ⟨rfl, dd_X9_usedBy⟩ ⟨Nat.le_of_ble_eq_true rfl, Nat.le_of_ble_eq_true rfl⟩) (z_preV hC hZ hM0 zc8) rfl rfl hl.1 rfl (lv_room (Nat.zero_le _)) dX9_used_9 ⟨hk, hn⟩) (fun r11 M H locs hw1 hZ => ?_) (fun q M H locs ci fs E T9 N9 hw hZ hc1 hM1 hb1 => False.elim hw)
    replace hw := hw1
    clear hw1
    refine W.cs (cells' := cells) (slots' := slots) rfl rfl ?_
    refine lv_goto (tgt := 16) hx hb dX9_used_12 (by decide) ?_
    exact wk_X9_used_L16 hG _ _ hk hn hZ (lv_sub hl [] rfl) hw
abbrev rm_X9_wipe : Room := { frames := 1, cells := 0, slots := 0, locals := 64 }
def wp_X9_wipe (D : zD) (post : Int32 → zM → Prop) (o : Nat) (M : zM) : Prop :=
    (zgI M o 8 8 fun g1 => (zp D M o 8 8 (.int (0 : Int32)) fun M => post g1 M))
set_option maxHeartbeats 4000000 in
set_option maxRecDepth 100000 in
theorem w_X9_wipe {l : Launch} {D : zD} {post : Int32 → zM → Prop} (hlt : l.stackTraces = false) {o : Nat} {M : zM} (hw : wp_X9_wipe D post o M) : zMet l D yX9_wipe (ws_ yX9_wipe cX9_wipe 2 (some .int)) rm_X9_wipe 0 0 [.ref o] M zI post (fun _ _ => False) := by
  unfold wp_X9_wipe at hw
  have hlv : lv_args 0 [.ref o] = [(0, .ref o)] := (zargs1 rfl rfl)
  refine z_ofW hlt (by decide) (Nat.le_trans (zsl1 rfl (Nat.le_refl 0 : (lg_sl []).length ≤ 0)) (Nat.le_of_ble_eq_true rfl)) hlv ?_
  intro p e s m args below meth c ls hG hZ hl
  have hC := hG.1
  have hx := hC.x
  have hb := hC.b
  have hown := hC.o
  have hts := hC.ts
  have hlt := hG.2.2.2.2.2
  obtain ⟨cells, hce⟩ : ∃ z : Nat, z = 0 := ⟨0, rfl⟩
  obtain ⟨slots, hsl⟩ : ∃ z : Nat, z = 0 := ⟨0, rfl⟩
  refine W.cs (cells' := cells) (slots' := slots) hce.symm hsl.symm ?_
  have hk : cells ≤ 0 := Nat.le_of_eq hce
  have hn : slots ≤ 0 := Nat.le_of_eq hsl
  clear hce hsl
  refine lv_aload_n hx hb dX9_wipe_0 rfl (lv_at hl 0 rfl) ?_
  obtain ⟨fs0, g3, hM0, hx0, hw⟩ := hw
  refine z_get hC hZ hM0 zc8 8 (by decide) q1728 (fun _ h9 => h9) hx0 dX9_wipe_1 ?_
  refine lv_istore_n (i := 1) (lv' := [(1, .int g3), (0, .ref o)]) hx hb dX9_wipe_4 rfl hl (by decide) rfl (fun ls hl1 => ?_)
  replace hl := hl1
  clear hl1
  refine lv_aload_n hx hb dX9_wipe_5 rfl (lv_at hl 1 rfl) ?_
  refine lv_iconst (v := 0) hx hb dX9_wipe_6 (by decide) ?_
  obtain ⟨fs0, hM0, hb0, hk0, hw⟩ := hw
  refine z_put hC hZ hM0 hb0 zc8 8 (by decide) q1728 (fun _ h9 => h9) (by decide) rfl rfl hk0 dX9_wipe_7 (fun H locs hZ => ?_)
  generalize zu M _ _ = M at hw hZ
  refine lv_iload_n hx hb dX9_wipe_10 rfl (lv_at hl 0 rfl) ?_
  exact z_iret hG hZ hk hn hw dX9_wipe_11
abbrev rm_X9_writesDecimal : Room := { frames := 3, cells := 0, slots := 0, locals := 111 }
def wp_X9_writesDecimal_L53 (D : zD) (post : Unit → zM → Prop) (o : Nat) (M : zM) : Prop :=
    post () M
set_option maxHeartbeats 4000000 in
set_option maxRecDepth 100000 in
theorem wk_X9_writesDecimal_L53 {p : Program} {l : Launch} {e : Env} {s : State} {m : MethodId} {args : Array Value} {below : List Frame} {meth : Method} {c : Code} {D : zD} {post : Unit → zM → Prop} {o : Nat} (hG : zGx p l s m args meth c cX9_writesDecimal 5 "PluralBranchesModel" D (none) "writesDecimal" []) : ∀ {H : Heap} {locs : List Loc} {cells slots : Nat} {ls : Array Slot} (M : zM), cells ≤ 0 → slots ≤ 0 → zS D M H locs → lv_has ls 5 [] → wp_X9_writesDecimal_L53 D post o M → W p l e rm_X9_writesDecimal s m args below meth c H locs cells slots (vx_MQ below (zQ D zU post) (zX D (fun _ _ => False)) args s 0 0 (zA D)) (F0 m 53 ls []) := by
  have hC := hG.1
  have hx := hC.x
  have hb := hC.b
  have hown := hC.o
  have hts := hC.ts
  have hlt := hG.2.2.2.2.2
  intro H locs cells slots ls M hk hn hZ hl hw
  exact z_vret hG hZ hk hn hw dX9_writesDecimal_53
def wp_X9_writesDecimal_L23 (D : zD) (post : Unit → zM → Prop) (o : Nat) (x2 : Int32) (x3 : Int64) (M : zM) : Prop :=
    (wp_X9_tens D (fun r1 M => (¬ r1 = 0 ∧ ((zis M o [8] ∧ wp_X9_writesDigits D (fun _ M => ((x2 ≤ 0 → wp_X9_writesDecimal_L53 D post o M) ∧ (¬ x2 ≤ 0 → ((zis M o [8] ∧ wp_X9_writesPoint D (fun _ M => (wp_X9_tens D (fun r10 M => (¬ r10 = 0 ∧ ((zis M o [8] ∧ wp_X9_writesDigits D (fun _ M => wp_X9_writesDecimal_L53 D post o M) o (x3 - x3 / r10 * r10) x2 M)))) x2 M)) o M))))) o (x3 / r1) (1 : Int32) M)))) x2 M)
set_option maxHeartbeats 4000000 in
set_option maxRecDepth 100000 in
theorem wk_X9_writesDecimal_L23 {p : Program} {l : Launch} {e : Env} {s : State} {m : MethodId} {args : Array Value} {below : List Frame} {meth : Method} {c : Code} {D : zD} {post : Unit → zM → Prop} {o : Nat} (hG : zGx p l s m args meth c cX9_writesDecimal 5 "PluralBranchesModel" D (none) "writesDecimal" []) : ∀ {H : Heap} {locs : List Loc} {cells slots : Nat} {ls : Array Slot} (x2 : Int32) (x3 : Int64) (M : zM), cells ≤ 0 → slots ≤ 0 → zS D M H locs → lv_has ls 5 [(0, .ref o), (2, .int x2), (3, .long x3)] → wp_X9_writesDecimal_L23 D post o x2 x3 M → W p l e rm_X9_writesDecimal s m args below meth c H locs cells slots (vx_MQ below (zQ D zU post) (zX D (fun _ _ => False)) args s 0 0 (zA D)) (F0 m 23 ls []) := by
  have hC := hG.1
  have hx := hC.x
  have hb := hC.b
  have hown := hC.o
  have hts := hC.ts
  have hlt := hG.2.2.2.2.2
  intro H locs cells slots ls x2 x3 M hk hn hZ hl hw
  refine lv_aload_n hx hb dX9_writesDecimal_23 rfl (lv_at hl 0 rfl) ?_
  refine lv_lload_n hx hb dX9_writesDecimal_24 rfl (lv_at hl 2 rfl) ?_
  refine lv_iload_n hx hb dX9_writesDecimal_25 rfl (lv_at hl 1 rfl) ?_
  refine z_callL hZ (vx_runS (As := [.int x2]) (rest := [.long x3, .ref o]) hC.fix (w_X9_tens hlt hw) (va_cwS 1 hts (lw_S q1901 q1902 q83 q1903) rfl rfl rfl dd_X9_tens ⟨Nat.le_of_ble_eq_true rfl, Nat.le_of_ble_eq_true rfl⟩) (z_preS hC hZ) rfl rfl hl.1 rfl (lv_room (Nat.le_trans (zrm2 rfl (zrm1 rfl zrm0)) (Nat.le_of_ble_eq_true rfl))) dX9_writesDecimal_26 ⟨hk, hn⟩) (fun r17 M H locs hw1 hZ => ?_) (fun q M H locs ci fs E T9 N9 hw hZ hc1 hM1 hb1 => False.elim hw)
  replace hw := hw1
  clear hw1
  refine W.cs (cells' := cells) (slots' := slots) rfl rfl ?_
  obtain ⟨hz0, hw⟩ := hw
  refine lv_ldiv hx hb dX9_writesDecimal_29 hz0 ?_
  refine lv_iconst (v := 1) hx hb dX9_writesDecimal_30 (by decide) ?_
  obtain ⟨⟨ci0, fs0, hci0, hM0⟩, hw⟩ := hw
  obtain rfl : ci0 = 8 := List.mem_singleton.mp hci0
  refine z_callU hZ (vx_runV (As := [.long (x3 / r17), .int (1 : Int32)]) (rest := []) hC.fix (w_X9_writesDigits hlt hw) (cwV 2 hts (lw_V q2141 q2143 qs54 q83 q2144) rfl rfl rfl ⟨rfl, dd_X9_writesDigits⟩ ⟨Nat.le_of_ble_eq_true rfl, Nat.le_of_ble_eq_true rfl⟩) (z_preV hC hZ hM0 zc8) rfl rfl hl.1 rfl (lv_room (Nat.zero_le _)) dX9_writesDecimal_31 ⟨hk, hn⟩) (fun r20 M H locs hw1 hZ => ?_) (fun q M H locs ci fs E T9 N9 hw hZ hc1 hM1 hb1 => False.elim hw)
  replace hw := hw1
  clear hw1
  refine W.cs (cells' := cells) (slots' := slots) rfl rfl ?_
  refine lv_iload_n hx hb dX9_writesDecimal_34 rfl (lv_at hl 1 rfl) ?_
  refine lv_if_le (tgt := 53) hx hb dX9_writesDecimal_35 (by decide) (fun c32 => ?_) (fun c32 => ?_)
  · replace hw := hw.1 c32
    exact wk_X9_writesDecimal_L53 hG _ hk hn hZ (lv_sub hl [] rfl) hw
  · replace hw := hw.2 c32
    refine lv_aload_n hx hb dX9_writesDecimal_38 rfl (lv_at hl 0 rfl) ?_
    obtain ⟨⟨ci0, fs0, hci0, hM0⟩, hw⟩ := hw
    obtain rfl : ci0 = 8 := List.mem_singleton.mp hci0
    refine z_callU hZ (vx_runV (As := []) (rest := []) hC.fix (w_X9_writesPoint hlt hw) (cwV 0 hts (lw_V q2146 q2148 qs55 q83 q2149) rfl rfl rfl ⟨rfl, dd_X9_writesPoint⟩ ⟨Nat.le_of_ble_eq_true rfl, Nat.le_of_ble_eq_true rfl⟩) (z_preV hC hZ hM0 zc8) rfl rfl hl.1 rfl (lv_room (Nat.zero_le _)) dX9_writesDecimal_39 ⟨hk, hn⟩) (fun r23 M H locs hw1 hZ => ?_) (fun q M H locs ci fs E T9 N9 hw hZ hc1 hM1 hb1 => False.elim hw)
    replace hw := hw1
    clear hw1
    refine W.cs (cells' := cells) (slots' := slots) rfl rfl ?_
    refine lv_aload_n hx hb dX9_writesDecimal_42 rfl (lv_at hl 0 rfl) ?_
    refine lv_lload_n hx hb dX9_writesDecimal_43 rfl (lv_at hl 2 rfl) ?_
    refine lv_iload_n hx hb dX9_writesDecimal_44 rfl (lv_at hl 1 rfl) ?_
    refine z_callL hZ (vx_runS (As := [.int x2]) (rest := [.long x3, .ref o]) hC.fix (w_X9_tens hlt hw) (va_cwS 1 hts (lw_S q1901 q1902 q83 q1903) rfl rfl rfl dd_X9_tens ⟨Nat.le_of_ble_eq_true rfl, Nat.le_of_ble_eq_true rfl⟩) (z_preS hC hZ) rfl rfl hl.1 rfl (lv_room (Nat.le_trans (zrm2 rfl (zrm1 rfl zrm0)) (Nat.le_of_ble_eq_true rfl))) dX9_writesDecimal_45 ⟨hk, hn⟩) (fun r26 M H locs hw1 hZ => ?_) (fun q M H locs ci fs E T9 N9 hw hZ hc1 hM1 hb1 => False.elim hw)
    replace hw := hw1
    clear hw1
    refine W.cs (cells' := cells) (slots' := slots) rfl rfl ?_
    obtain ⟨hz0, hw⟩ := hw
    refine lv_lrem hx hb dX9_writesDecimal_48 hz0 ?_
    refine lv_iload_n hx hb dX9_writesDecimal_49 rfl (lv_at hl 1 rfl) ?_
    obtain ⟨⟨ci0, fs0, hci0, hM0⟩, hw⟩ := hw
    obtain rfl : ci0 = 8 := List.mem_singleton.mp hci0
    refine z_callU hZ (vx_runV (As := [.long (x3 - x3 / r26 * r26), .int x2]) (rest := []) hC.fix (w_X9_writesDigits hlt hw) (cwV 2 hts (lw_V q2141 q2143 qs54 q83 q2144) rfl rfl rfl ⟨rfl, dd_X9_writesDigits⟩ ⟨Nat.le_of_ble_eq_true rfl, Nat.le_of_ble_eq_true rfl⟩) (z_preV hC hZ hM0 zc8) rfl rfl hl.1 rfl (lv_room (Nat.zero_le _)) dX9_writesDecimal_50 ⟨hk, hn⟩) (fun r29 M H locs hw1 hZ => ?_) (fun q M H locs ci fs E T9 N9 hw hZ hc1 hM1 hb1 => False.elim hw)
    replace hw := hw1
    clear hw1
    refine W.cs (cells' := cells) (slots' := slots) rfl rfl ?_
    exact wk_X9_writesDecimal_L53 hG _ hk hn hZ (lv_sub hl [] rfl) hw
def wp_X9_writesDecimal_L12 (D : zD) (post : Unit → zM → Prop) (o : Nat) (x1 : Int32) (x2 : Int32) (y0 : Int64) (M : zM) : Prop :=
    ((0 ≤ x1 → wp_X9_writesDecimal_L23 D post o x2 y0 M) ∧ (¬ 0 ≤ x1 → ((zis M o [8] ∧ wp_X9_writes D (fun _ M => wp_X9_writesDecimal_L23 D post o x2 y0 M) o (45 : Int32) M))))
set_option maxHeartbeats 4000000 in
set_option maxRecDepth 100000 in
theorem wk_X9_writesDecimal_L12 {p : Program} {l : Launch} {e : Env} {s : State} {m : MethodId} {args : Array Value} {below : List Frame} {meth : Method} {c : Code} {D : zD} {post : Unit → zM → Prop} {o : Nat} (hG : zGx p l s m args meth c cX9_writesDecimal 5 "PluralBranchesModel" D (none) "writesDecimal" []) : ∀ {H : Heap} {locs : List Loc} {cells slots : Nat} {ls : Array Slot} (x1 : Int32) (x2 : Int32) (y0 : Int64) (M : zM), cells ≤ 0 → slots ≤ 0 → zS D M H locs → lv_has ls 5 [(0, .ref o), (1, .int x1), (2, .int x2)] → wp_X9_writesDecimal_L12 D post o x1 x2 y0 M → W p l e rm_X9_writesDecimal s m args below meth c H locs cells slots (vx_MQ below (zQ D zU post) (zX D (fun _ _ => False)) args s 0 0 (zA D)) (F0 m 12 ls [.long y0]) := by
  have hC := hG.1
  have hx := hC.x
  have hb := hC.b
  have hown := hC.o
  have hts := hC.ts
  have hlt := hG.2.2.2.2.2
  intro H locs cells slots ls x1 x2 y0 M hk hn hZ hl hw
  refine lv_lstore_n (i := 3) (lv' := [(3, .long y0), (0, .ref o), (1, .int x1), (2, .int x2)]) hx hb dX9_writesDecimal_12 rfl hl (by decide) rfl (fun ls hl1 => ?_)
  replace hl := hl1
  clear hl1
  refine lv_iload_n hx hb dX9_writesDecimal_13 rfl (lv_at hl 2 rfl) ?_
  refine lv_if_ge (tgt := 23) hx hb dX9_writesDecimal_14 (by decide) (fun c40 => ?_) (fun c40 => ?_)
  · replace hw := hw.1 c40
    exact wk_X9_writesDecimal_L23 hG _ _ _ hk hn hZ (lv_sub hl [1, 3, 0] rfl) hw
  · replace hw := hw.2 c40
    refine lv_aload_n hx hb dX9_writesDecimal_17 rfl (lv_at hl 1 rfl) ?_
    refine lv_bipush (v := 45) hx hb dX9_writesDecimal_18 (by decide) ?_
    obtain ⟨⟨ci0, fs0, hci0, hM0⟩, hw⟩ := hw
    obtain rfl : ci0 = 8 := List.mem_singleton.mp hci0
    refine z_callU hZ (vx_runV (As := [.int (45 : Int32)]) (rest := []) hC.fix (w_X9_writes hlt hw) (cwV 1 hts (lw_V q2137 q2139 qs53 q83 q2140) rfl rfl rfl ⟨rfl, dd_X9_writes⟩ ⟨Nat.le_of_ble_eq_true rfl, Nat.le_of_ble_eq_true rfl⟩) (z_preV hC hZ hM0 zc8) rfl rfl hl.1 rfl (lv_room (Nat.zero_le _)) dX9_writesDecimal_20 ⟨hk, hn⟩) (fun r37 M H locs hw1 hZ => ?_) (fun q M H locs ci fs E T9 N9 hw hZ hc1 hM1 hb1 => False.elim hw)
    replace hw := hw1
    clear hw1
    refine W.cs (cells' := cells) (slots' := slots) rfl rfl ?_
    exact wk_X9_writesDecimal_L23 hG _ _ _ hk hn hZ (lv_sub hl [1, 3, 0] rfl) hw
def wp_X9_writesDecimal (D : zD) (post : Unit → zM → Prop) (o : Nat) (a0 : Int32) (a1 : Int32) (M : zM) : Prop :=
    ((0 ≤ a0 → wp_X9_writesDecimal_L12 D post o a0 a1 (a0.toInt64) M) ∧ (¬ 0 ≤ a0 → wp_X9_writesDecimal_L12 D post o a0 a1 (-(a0.toInt64)) M))
set_option maxHeartbeats 4000000 in
set_option maxRecDepth 100000 in
theorem w_X9_writesDecimal {l : Launch} {D : zD} {post : Unit → zM → Prop} (hlt : l.stackTraces = false) {o : Nat} {a0 : Int32} {a1 : Int32} {M : zM} (hw : wp_X9_writesDecimal D post o a0 a1 M) : zMet l D yX9_writesDecimal (ws_ yX9_writesDecimal cX9_writesDecimal 5 (none)) rm_X9_writesDecimal 0 0 [.ref o, .int a0, .int a1] M zU post (fun _ _ => False) := by
  unfold wp_X9_writesDecimal at hw
  have hlv : lv_args 0 [.ref o, .int a0, .int a1] = [(0, .ref o), (1, .int a0), (2, .int a1)] := (zargs1 rfl (zargs1 rfl (zargs1 rfl rfl)))
  refine z_ofW hlt (by decide) (Nat.le_trans (zsl1 rfl (zsl1 rfl (zsl1 rfl (Nat.le_refl 0 : (lg_sl []).length ≤ 0)))) (Nat.le_of_ble_eq_true rfl)) hlv ?_
  intro p e s m args below meth c ls hG hZ hl
  have hC := hG.1
  have hx := hC.x
  have hb := hC.b
  have hown := hC.o
  have hts := hC.ts
  have hlt := hG.2.2.2.2.2
  obtain ⟨cells, hce⟩ : ∃ z : Nat, z = 0 := ⟨0, rfl⟩
  obtain ⟨slots, hsl⟩ : ∃ z : Nat, z = 0 := ⟨0, rfl⟩
  refine W.cs (cells' := cells) (slots' := slots) hce.symm hsl.symm ?_
  have hk : cells ≤ 0 := Nat.le_of_eq hce
  have hn : slots ≤ 0 := Nat.le_of_eq hsl
  clear hce hsl
  refine lv_iload_n hx hb dX9_writesDecimal_0 rfl (lv_at hl 1 rfl) ?_
  refine lv_if_ge (tgt := 10) hx hb dX9_writesDecimal_1 (by decide) (fun c42 => ?_) (fun c42 => ?_)
  · replace hw := hw.1 c42
    refine lv_iload_n hx hb dX9_writesDecimal_10 rfl (lv_at hl 1 rfl) ?_
    refine lv_i2l hx hb dX9_writesDecimal_11 rfl ?_
    exact wk_X9_writesDecimal_L12 hG _ _ _ _ hk hn hZ (lv_sub hl [0, 1, 2] rfl) hw
  · replace hw := hw.2 c42
    refine lv_iload_n hx hb dX9_writesDecimal_4 rfl (lv_at hl 1 rfl) ?_
    refine lv_i2l hx hb dX9_writesDecimal_5 rfl ?_
    refine lv_lneg hx hb dX9_writesDecimal_6 ?_
    refine lv_goto (tgt := 12) hx hb dX9_writesDecimal_7 (by decide) ?_
    exact wk_X9_writesDecimal_L12 hG _ _ _ _ hk hn hZ (lv_sub hl [0, 1, 2] rfl) hw
abbrev rm_X9_writesAll : Room := { frames := 5, cells := 0, slots := 0, locals := 149 }
def wp_X9_writesAll_L2 (D : zD) (post : Unit → zM → Prop) (o : Nat) : Nat → Option Nat → Int32 → zM → Prop
  | 0 => fun _ _ _ => False
  | f + 1 => fun x1 x2 M =>
    ((zd x1 fun b1 => (zis M b1 [30] ∧ wp_J11_length D (fun r2 M => ((r2 ≤ x2 → post () M) ∧ (¬ r2 ≤ x2 → ((zis M b1 [30] ∧ wp_J11_charAt D (fun r5 M => ((zis M o [8] ∧ wp_X9_writes D (fun _ M => wp_X9_writesAll_L2 D post o f (some b1) (x2 + 1) M) o r5 M))) b1 x2 M))))) b1 M)))
set_option maxHeartbeats 4000000 in
set_option maxRecDepth 100000 in
theorem wk_X9_writesAll_L2 {p : Program} {l : Launch} {e : Env} {s : State} {m : MethodId} {args : Array Value} {below : List Frame} {meth : Method} {c : Code} {D : zD} {post : Unit → zM → Prop} {o : Nat} (hG : zGx p l s m args meth c cX9_writesAll 3 "PluralBranchesModel" D (none) "writesAll" []) : ∀ (f : Nat), ∀ {H : Heap} {locs : List Loc} {cells slots : Nat} {ls : Array Slot} (x1 : Option Nat) (x2 : Int32) (M : zM), cells ≤ 0 → slots ≤ 0 → zS D M H locs → lv_has ls 3 [(0, .ref o), (1, va_rf x1), (2, .int x2)] → wp_X9_writesAll_L2 D post o f x1 x2 M → W p l e rm_X9_writesAll s m args below meth c H locs cells slots (vx_MQ below (zQ D zU post) (zX D (fun _ _ => False)) args s 0 0 (zA D)) (F0 m 2 ls []) := by
  have hC := hG.1
  have hx := hC.x
  have hb := hC.b
  have hown := hC.o
  have hts := hC.ts
  have hlt := hG.2.2.2.2.2
  intro f
  induction f with
  | zero =>
    intro H locs cells slots ls x1 x2 M hk hn hZ hl hw
    exact absurd hw (fun h => h)
  | succ f ih =>
    intro H locs cells slots ls x1 x2 M hk hn hZ hl hw
    refine lv_iload_n hx hb dX9_writesAll_2 rfl (lv_at hl 2 rfl) ?_
    refine z_aload_n hC dX9_writesAll_3 rfl (lv_at hl 1 rfl) ?_
    obtain ⟨b12, hr0, hw⟩ := hw
    subst hr0
    obtain ⟨⟨ci0, fs0, hci0, hM0⟩, hw⟩ := hw
    obtain rfl : ci0 = 30 := List.mem_singleton.mp hci0
    refine z_callI hZ (vx_runV (As := []) (rest := [.int x2]) hC.fix (w_J11_length hlt hw) (cwV 0 hts (lw_V q2172 q887 q888 q102 q889) rfl rfl rfl ⟨rfl, dd_J11_length⟩ ⟨Nat.le_of_ble_eq_true rfl, Nat.le_of_ble_eq_true rfl⟩) (z_preV hC hZ hM0 zc30) rfl rfl hl.1 rfl (lv_room (Nat.le_trans (zrm1 rfl zrm0) (Nat.le_of_ble_eq_true rfl))) dX9_writesAll_4 ⟨hk, hn⟩) (fun r13 M H locs hw1 hZ => ?_) (fun q M H locs ci fs E T9 N9 hw hZ hc1 hM1 hb1 => False.elim hw)
    replace hw := hw1
    clear hw1
    refine W.cs (cells' := cells) (slots' := slots) rfl rfl ?_
    refine lv_icmp_ge (tgt := 25) hx hb dX9_writesAll_7 (by decide) (fun c22 => ?_) (fun c22 => ?_)
    · replace hw := hw.1 c22
      exact z_vret hG hZ hk hn hw dX9_writesAll_25
    · replace hw := hw.2 c22
      refine lv_aload_n hx hb dX9_writesAll_10 rfl (lv_at hl 0 rfl) ?_
      refine lv_aload_n hx hb dX9_writesAll_11 rfl (lv_at hl 1 rfl) ?_
      refine lv_iload_n hx hb dX9_writesAll_12 rfl (lv_at hl 2 rfl) ?_
      obtain ⟨⟨ci0, fs0, hci0, hM0⟩, hw⟩ := hw
      obtain rfl : ci0 = 30 := List.mem_singleton.mp hci0
      refine z_callI hZ (vx_runV (As := [.int x2]) (rest := [.ref o]) hC.fix (w_J11_charAt hlt hw) (cwV 1 hts (lw_V q2173 q1476 q1477 q102 q1478) rfl rfl rfl ⟨rfl, dd_J11_charAt⟩ ⟨Nat.le_of_ble_eq_true rfl, Nat.le_of_ble_eq_true rfl⟩) (z_preV hC hZ hM0 zc30) rfl rfl hl.1 rfl (lv_room (Nat.le_trans (zrm1 rfl zrm0) (Nat.le_of_ble_eq_true rfl))) dX9_writesAll_13 ⟨hk, hn⟩) (fun r16 M H locs hw1 hZ => ?_) (fun q M H locs ci fs E T9 N9 hw hZ hc1 hM1 hb1 => False.elim hw)
      replace hw := hw1
      clear hw1
      refine W.cs (cells' := cells) (slots' := slots) rfl rfl ?_
      obtain ⟨⟨ci0, fs0, hci0, hM0⟩, hw⟩ := hw
      obtain rfl : ci0 = 8 := List.mem_singleton.mp hci0
      refine z_callU hZ (vx_runV (As := [.int r16]) (rest := []) hC.fix (w_X9_writes hlt hw) (cwV 1 hts (lw_V q2137 q2139 qs53 q83 q2140) rfl rfl rfl ⟨rfl, dd_X9_writes⟩ ⟨Nat.le_of_ble_eq_true rfl, Nat.le_of_ble_eq_true rfl⟩) (z_preV hC hZ hM0 zc8) rfl rfl hl.1 rfl (lv_room (Nat.zero_le _)) dX9_writesAll_16 ⟨hk, hn⟩) (fun r19 M H locs hw1 hZ => ?_) (fun q M H locs ci fs E T9 N9 hw hZ hc1 hM1 hb1 => False.elim hw)
      replace hw := hw1
      clear hw1
      refine W.cs (cells' := cells) (slots' := slots) rfl rfl ?_
      refine lv_iinc (v := (x2 + 1)) (lv' := [(2, .int (x2 + 1)), (0, .ref o), (1, .ref b12)]) hx hb dX9_writesAll_19 hl (k := 2) rfl rfl (by decide) rfl (fun ls hl1 => ?_)
      replace hl := hl1
      clear hl1
      refine lv_goto (tgt := 2) hx hb dX9_writesAll_22 (by decide) ?_
      exact ih _ _ _ hk hn hZ (lv_sub hl [1, 2, 0] rfl) hw
def wp_X9_writesAll (D : zD) (post : Unit → zM → Prop) (o : Nat) (a0 : Option Nat) (M : zM) : Prop :=
    (∃ f, wp_X9_writesAll_L2 D post o f a0 (0 : Int32) M)
set_option maxHeartbeats 4000000 in
set_option maxRecDepth 100000 in
theorem w_X9_writesAll {l : Launch} {D : zD} {post : Unit → zM → Prop} (hlt : l.stackTraces = false) {o : Nat} {a0 : Option Nat} {M : zM} (hw : wp_X9_writesAll D post o a0 M) : zMet l D yX9_writesAll (ws_ yX9_writesAll cX9_writesAll 3 (none)) rm_X9_writesAll 0 0 [.ref o, va_rf a0] M zU post (fun _ _ => False) := by
  unfold wp_X9_writesAll at hw
  have hlv : lv_args 0 [.ref o, va_rf a0] = [(0, .ref o), (1, va_rf a0)] := (zargs1 rfl (zargs1 (zcat _) rfl))
  refine z_ofW hlt (by decide) (Nat.le_trans (zsl1 rfl (zsl1 (zcat _) (Nat.le_refl 0 : (lg_sl []).length ≤ 0))) (Nat.le_of_ble_eq_true rfl)) hlv ?_
  intro p e s m args below meth c ls hG hZ hl
  have hC := hG.1
  have hx := hC.x
  have hb := hC.b
  have hown := hC.o
  have hts := hC.ts
  have hlt := hG.2.2.2.2.2
  obtain ⟨cells, hce⟩ : ∃ z : Nat, z = 0 := ⟨0, rfl⟩
  obtain ⟨slots, hsl⟩ : ∃ z : Nat, z = 0 := ⟨0, rfl⟩
  refine W.cs (cells' := cells) (slots' := slots) hce.symm hsl.symm ?_
  have hk : cells ≤ 0 := Nat.le_of_eq hce
  have hn : slots ≤ 0 := Nat.le_of_eq hsl
  clear hce hsl
  refine lv_iconst (v := 0) hx hb dX9_writesAll_0 (by decide) ?_
  refine lv_istore_n (i := 2) (lv' := [(2, .int (0 : Int32)), (0, .ref o), (1, va_rf a0)]) hx hb dX9_writesAll_1 rfl hl (by decide) (zfc rfl (zfk rfl (zfk (zfa rfl) rfl))) (fun ls hl1 => ?_)
  replace hl := hl1
  clear hl1
  obtain ⟨f1, hw⟩ := hw
  exact wk_X9_writesAll_L2 hG f1 _ _ _ hk hn hZ (lv_sub hl [1, 2, 0] rfl) hw
abbrev rm_X9_writesInt : Room := { frames := 4, cells := 0, slots := 0, locals := 135 }
def wp_X9_writesInt (D : zD) (post : Unit → zM → Prop) (o : Nat) (a0 : Int32) (M : zM) : Prop :=
    ((zis M o [8] ∧ wp_X9_writesDecimal D (fun _ M => post () M) o a0 (0 : Int32) M))
set_option maxHeartbeats 4000000 in
set_option maxRecDepth 100000 in
theorem w_X9_writesInt {l : Launch} {D : zD} {post : Unit → zM → Prop} (hlt : l.stackTraces = false) {o : Nat} {a0 : Int32} {M : zM} (hw : wp_X9_writesInt D post o a0 M) : zMet l D yX9_writesInt (ws_ yX9_writesInt cX9_writesInt 2 (none)) rm_X9_writesInt 0 0 [.ref o, .int a0] M zU post (fun _ _ => False) := by
  unfold wp_X9_writesInt at hw
  have hlv : lv_args 0 [.ref o, .int a0] = [(0, .ref o), (1, .int a0)] := (zargs1 rfl (zargs1 rfl rfl))
  refine z_ofW hlt (by decide) (Nat.le_trans (zsl1 rfl (zsl1 rfl (Nat.le_refl 0 : (lg_sl []).length ≤ 0))) (Nat.le_of_ble_eq_true rfl)) hlv ?_
  intro p e s m args below meth c ls hG hZ hl
  have hC := hG.1
  have hx := hC.x
  have hb := hC.b
  have hown := hC.o
  have hts := hC.ts
  have hlt := hG.2.2.2.2.2
  obtain ⟨cells, hce⟩ : ∃ z : Nat, z = 0 := ⟨0, rfl⟩
  obtain ⟨slots, hsl⟩ : ∃ z : Nat, z = 0 := ⟨0, rfl⟩
  refine W.cs (cells' := cells) (slots' := slots) hce.symm hsl.symm ?_
  have hk : cells ≤ 0 := Nat.le_of_eq hce
  have hn : slots ≤ 0 := Nat.le_of_eq hsl
  clear hce hsl
  refine lv_aload_n hx hb dX9_writesInt_0 rfl (lv_at hl 0 rfl) ?_
  refine lv_iload_n hx hb dX9_writesInt_1 rfl (lv_at hl 1 rfl) ?_
  refine lv_iconst (v := 0) hx hb dX9_writesInt_2 (by decide) ?_
  obtain ⟨⟨ci0, fs0, hci0, hM0⟩, hw⟩ := hw
  obtain rfl : ci0 = 8 := List.mem_singleton.mp hci0
  refine z_callU hZ (vx_runV (As := [.int a0, .int (0 : Int32)]) (rest := []) hC.fix (w_X9_writesDecimal hlt hw) (cwV 2 hts (lw_V q2133 q2135 qs52 q83 q2136) rfl rfl rfl ⟨rfl, dd_X9_writesDecimal⟩ ⟨Nat.le_of_ble_eq_true rfl, Nat.le_of_ble_eq_true rfl⟩) (z_preV hC hZ hM0 zc8) rfl rfl hl.1 rfl (lv_room (Nat.zero_le _)) dX9_writesInt_3 ⟨hk, hn⟩) (fun r4 M H locs hw1 hZ => ?_) (fun q M H locs ci fs E T9 N9 hw hZ hc1 hM1 hb1 => False.elim hw)
  replace hw := hw1
  clear hw1
  refine W.cs (cells' := cells) (slots' := slots) rfl rfl ?_
  exact z_vret hG hZ hk hn hw dX9_writesInt_6
abbrev rm_X9_writesList : Room := { frames := 6, cells := 0, slots := 0, locals := 171 }
def wp_X9_writesList_L126 (D : zD) (post : Unit → zM → Prop) (o : Nat) (k9 : Int32 → Int32 → Int32 → zM → Prop) (x1 : Int32) (x2 : Int32) (x3 : Int32) (M : zM) : Prop :=
    (zgR M o 8 44 fun g1 => ((zd g1 fun b2 => zaI M b2 0 (((6 : Int32) * x1) + x3) fun v3 => ((zis M o [8] ∧ wp_X9_writesInt D (fun _ M => k9 x1 x2 (x3 + 1) M) o v3 M)))))
set_option maxHeartbeats 4000000 in
set_option maxRecDepth 100000 in
theorem wk_X9_writesList_L126 {p : Program} {l : Launch} {e : Env} {s : State} {m : MethodId} {args : Array Value} {below : List Frame} {meth : Method} {c : Code} {D : zD} {post : Unit → zM → Prop} {o : Nat} (hG : zGx p l s m args meth c cX9_writesList 8 "PluralBranchesModel" D (none) "writesList" []) (k9 : Int32 → Int32 → Int32 → zM → Prop) (hk9 : ∀ {H : Heap} {locs : List Loc} {cells slots : Nat} {ls : Array Slot} (x1 : Int32) (x2 : Int32) (x3 : Int32) (M : zM), cells ≤ 0 → slots ≤ 0 → zS D M H locs → lv_has ls 8 [(0, .ref o), (1, .int x1), (2, .int x2), (3, .int x3)] → k9 x1 x2 x3 M → W p l e rm_X9_writesList s m args below meth c H locs cells slots (vx_MQ below (zQ D zU post) (zX D (fun _ _ => False)) args s 0 0 (zA D)) (F0 m 9 ls [])) : ∀ {H : Heap} {locs : List Loc} {cells slots : Nat} {ls : Array Slot} (x1 : Int32) (x2 : Int32) (x3 : Int32) (M : zM), cells ≤ 0 → slots ≤ 0 → zS D M H locs → lv_has ls 8 [(0, .ref o), (1, .int x1), (2, .int x2), (3, .int x3)] → wp_X9_writesList_L126 D post o k9 x1 x2 x3 M → W p l e rm_X9_writesList s m args below meth c H locs cells slots (vx_MQ below (zQ D zU post) (zX D (fun _ _ => False)) args s 0 0 (zA D)) (F0 m 126 ls []) := by
  have hC := hG.1
  have hx := hC.x
  have hb := hC.b
  have hown := hC.o
  have hts := hC.ts
  have hlt := hG.2.2.2.2.2
  intro H locs cells slots ls x1 x2 x3 M hk hn hZ hl hw
  refine lv_aload_n hx hb dX9_writesList_126 rfl (lv_at hl 0 rfl) ?_
  refine lv_aload_n hx hb dX9_writesList_127 rfl (lv_at hl 0 rfl) ?_
  obtain ⟨fs0, g7, hM0, hx0, hw⟩ := hw
  refine z_get hC hZ hM0 zc8 44 (by decide) q1764 (fun _ h9 => h9) hx0 dX9_writesList_128 ?_
  refine lv_bipush (v := 6) hx hb dX9_writesList_131 (by decide) ?_
  refine lv_iload_n hx hb dX9_writesList_133 rfl (lv_at hl 1 rfl) ?_
  refine lv_imul hx hb dX9_writesList_134 ?_
  refine lv_iload_n hx hb dX9_writesList_135 rfl (lv_at hl 3 rfl) ?_
  refine lv_iadd hx hb dX9_writesList_136 ?_
  obtain ⟨b8, hr0, hw⟩ := hw
  subst hr0
  obtain ⟨n0, f0, hM0, hi0, hw⟩ := hw
  refine z_iald hC hZ hM0 hi0 dX9_writesList_137 ?_
  generalize f0 _ = v9 at hw ⊢
  obtain ⟨⟨ci0, fs0, hci0, hM0⟩, hw⟩ := hw
  obtain rfl : ci0 = 8 := List.mem_singleton.mp hci0
  refine z_callU hZ (vx_runV (As := [.int v9]) (rest := []) hC.fix (w_X9_writesInt hlt hw) (cwV 1 hts (lw_V q2174 q2176 qs58 q83 q2177) rfl rfl rfl ⟨rfl, dd_X9_writesInt⟩ ⟨Nat.le_of_ble_eq_true rfl, Nat.le_of_ble_eq_true rfl⟩) (z_preV hC hZ hM0 zc8) rfl rfl hl.1 rfl (lv_room (Nat.zero_le _)) dX9_writesList_138 ⟨hk, hn⟩) (fun r10 M H locs hw1 hZ => ?_) (fun q M H locs ci fs E T9 N9 hw hZ hc1 hM1 hb1 => False.elim hw)
  replace hw := hw1
  clear hw1
  refine W.cs (cells' := cells) (slots' := slots) rfl rfl ?_
  refine lv_iinc (v := (x3 + 1)) (lv' := [(3, .int (x3 + 1)), (0, .ref o), (1, .int x1), (2, .int x2)]) hx hb dX9_writesList_141 hl (k := 3) rfl rfl (by decide) rfl (fun ls hl1 => ?_)
  replace hl := hl1
  clear hl1
  refine lv_goto (tgt := 9) hx hb dX9_writesList_144 (by decide) ?_
  exact hk9 _ _ _ _ hk hn hZ (lv_sub hl [1, 2, 3, 0] rfl) hw
def wp_X9_writesList_L123 (D : zD) (post : Unit → zM → Prop) (o : Nat) (k9 : Int32 → Int32 → Int32 → zM → Prop) (x1 : Int32) (x2 : Int32) (x3 : Int32) (y0 : Option Nat) (y1 : Option Nat) (M : zM) : Prop :=
    ((zd y0 fun b13 => (zis M b13 [8] ∧ wp_X9_writesAll D (fun _ M => wp_X9_writesList_L126 D post o k9 x1 x2 x3 M) b13 y1 M)))
set_option maxHeartbeats 4000000 in
set_option maxRecDepth 100000 in
theorem wk_X9_writesList_L123 {p : Program} {l : Launch} {e : Env} {s : State} {m : MethodId} {args : Array Value} {below : List Frame} {meth : Method} {c : Code} {D : zD} {post : Unit → zM → Prop} {o : Nat} (hG : zGx p l s m args meth c cX9_writesList 8 "PluralBranchesModel" D (none) "writesList" []) (k9 : Int32 → Int32 → Int32 → zM → Prop) (hk9 : ∀ {H : Heap} {locs : List Loc} {cells slots : Nat} {ls : Array Slot} (x1 : Int32) (x2 : Int32) (x3 : Int32) (M : zM), cells ≤ 0 → slots ≤ 0 → zS D M H locs → lv_has ls 8 [(0, .ref o), (1, .int x1), (2, .int x2), (3, .int x3)] → k9 x1 x2 x3 M → W p l e rm_X9_writesList s m args below meth c H locs cells slots (vx_MQ below (zQ D zU post) (zX D (fun _ _ => False)) args s 0 0 (zA D)) (F0 m 9 ls [])) : ∀ {H : Heap} {locs : List Loc} {cells slots : Nat} {ls : Array Slot} (x1 : Int32) (x2 : Int32) (x3 : Int32) (y0 : Option Nat) (y1 : Option Nat) (M : zM), cells ≤ 0 → slots ≤ 0 → zS D M H locs → lv_has ls 8 [(0, .ref o), (1, .int x1), (2, .int x2), (3, .int x3)] → wp_X9_writesList_L123 D post o k9 x1 x2 x3 y0 y1 M → W p l e rm_X9_writesList s m args below meth c H locs cells slots (vx_MQ below (zQ D zU post) (zX D (fun _ _ => False)) args s 0 0 (zA D)) (F0 m 123 ls [va_rf y1, va_rf y0]) := by
  have hC := hG.1
  have hx := hC.x
  have hb := hC.b
  have hown := hC.o
  have hts := hC.ts
  have hlt := hG.2.2.2.2.2
  intro H locs cells slots ls x1 x2 x3 y0 y1 M hk hn hZ hl hw
  obtain ⟨b17, hr0, hw⟩ := hw
  subst hr0
  obtain ⟨⟨ci0, fs0, hci0, hM0⟩, hw⟩ := hw
  obtain rfl : ci0 = 8 := List.mem_singleton.mp hci0
  refine z_callU hZ (vx_runV (As := [va_rf y1]) (rest := []) hC.fix (w_X9_writesAll hlt hw) (cwV 1 hts (lw_V q2168 q2170 qs57 q83 q2171) rfl rfl rfl ⟨rfl, dd_X9_writesAll⟩ ⟨Nat.le_of_ble_eq_true rfl, Nat.le_of_ble_eq_true rfl⟩) (z_preV hC hZ hM0 zc8) rfl rfl hl.1 rfl (lv_room (Nat.zero_le _)) dX9_writesList_123 ⟨hk, hn⟩) (fun r18 M H locs hw1 hZ => ?_) (fun q M H locs ci fs E T9 N9 hw hZ hc1 hM1 hb1 => False.elim hw)
  replace hw := hw1
  clear hw1
  refine W.cs (cells' := cells) (slots' := slots) rfl rfl ?_
  exact wk_X9_writesList_L126 hG k9 hk9 _ _ _ _ hk hn hZ (lv_sub hl [0, 1, 2, 3] rfl) hw
def wp_X9_writesList_L98 (D : zD) (post : Unit → zM → Prop) (o : Nat) (k9 : Int32 → Int32 → Int32 → zM → Prop) (x1 : Int32) (x2 : Int32) (x3 : Int32) (x4 : Int32) (x5 : Option Nat) (x6 : Option Nat) (y0 : Option Nat) (M : zM) : Prop :=
    ((¬ x2 = (2 : Int32) → ((x4 = 0 → wp_X9_writesList_L123 D post o k9 x1 x2 x3 (some o) x6 M) ∧ (¬ x4 = 0 → wp_X9_writesList_L123 D post o k9 x1 x2 x3 (some o) y0 M))) ∧ (x2 = (2 : Int32) → wp_X9_writesList_L123 D post o k9 x1 x2 x3 (some o) x5 M))
set_option maxHeartbeats 4000000 in
set_option maxRecDepth 100000 in
theorem wk_X9_writesList_L98 {p : Program} {l : Launch} {e : Env} {s : State} {m : MethodId} {args : Array Value} {below : List Frame} {meth : Method} {c : Code} {D : zD} {post : Unit → zM → Prop} {o : Nat} (hG : zGx p l s m args meth c cX9_writesList 8 "PluralBranchesModel" D (none) "writesList" []) (k9 : Int32 → Int32 → Int32 → zM → Prop) (hk9 : ∀ {H : Heap} {locs : List Loc} {cells slots : Nat} {ls : Array Slot} (x1 : Int32) (x2 : Int32) (x3 : Int32) (M : zM), cells ≤ 0 → slots ≤ 0 → zS D M H locs → lv_has ls 8 [(0, .ref o), (1, .int x1), (2, .int x2), (3, .int x3)] → k9 x1 x2 x3 M → W p l e rm_X9_writesList s m args below meth c H locs cells slots (vx_MQ below (zQ D zU post) (zX D (fun _ _ => False)) args s 0 0 (zA D)) (F0 m 9 ls [])) : ∀ {H : Heap} {locs : List Loc} {cells slots : Nat} {ls : Array Slot} (x1 : Int32) (x2 : Int32) (x3 : Int32) (x4 : Int32) (x5 : Option Nat) (x6 : Option Nat) (y0 : Option Nat) (M : zM), cells ≤ 0 → slots ≤ 0 → zS D M H locs → lv_has ls 8 [(0, .ref o), (1, .int x1), (2, .int x2), (3, .int x3), (4, .int x4), (5, va_rf x5), (6, va_rf x6)] → wp_X9_writesList_L98 D post o k9 x1 x2 x3 x4 x5 x6 y0 M → W p l e rm_X9_writesList s m args below meth c H locs cells slots (vx_MQ below (zQ D zU post) (zX D (fun _ _ => False)) args s 0 0 (zA D)) (F0 m 98 ls [va_rf y0]) := by
  have hC := hG.1
  have hx := hC.x
  have hb := hC.b
  have hown := hC.o
  have hts := hC.ts
  have hlt := hG.2.2.2.2.2
  intro H locs cells slots ls x1 x2 x3 x4 x5 x6 y0 M hk hn hZ hl hw
  refine z_astore (i := 7) (lv' := [(7, va_rf y0), (0, .ref o), (1, .int x1), (2, .int x2), (3, .int x3), (4, .int x4), (5, va_rf x5), (6, va_rf x6)]) hC dX9_writesList_98 hl (by decide) (zfc rfl (zfk rfl (zfk rfl (zfk rfl (zfk rfl (zfk rfl (zfk rfl (zfk (zfa rfl) rfl)))))))) (fun ls hl1 => ?_)
  replace hl := hl1
  clear hl1
  refine lv_aload_n hx hb dX9_writesList_100 rfl (lv_at hl 1 rfl) ?_
  refine lv_iload_n hx hb dX9_writesList_101 rfl (lv_at hl 3 rfl) ?_
  refine lv_iconst (v := 2) hx hb dX9_writesList_102 (by decide) ?_
  refine lv_icmp_ne (tgt := 111) hx hb dX9_writesList_103 (by decide) (fun c24 => ?_) (fun c24 => ?_)
  · replace hw := hw.1 c24
    refine lv_iload hx hb dX9_writesList_111 (lv_at hl 5 rfl) ?_
    refine lv_if_eq (tgt := 121) hx hb dX9_writesList_113 (by decide) (fun c23 => ?_) (fun c23 => ?_)
    · replace hw := hw.1 c23
      refine z_aload hC dX9_writesList_121 (lv_at hl 7 rfl) ?_
      exact wk_X9_writesList_L123 hG k9 hk9 _ _ _ _ _ _ hk hn hZ (lv_sub hl [1, 2, 3, 4] rfl) hw
    · replace hw := hw.2 c23
      refine z_aload hC dX9_writesList_116 (lv_at hl 0 rfl) ?_
      refine lv_goto (tgt := 123) hx hb dX9_writesList_118 (by decide) ?_
      exact wk_X9_writesList_L123 hG k9 hk9 _ _ _ _ _ _ hk hn hZ (lv_sub hl [1, 2, 3, 4] rfl) hw
  · replace hw := hw.2 c24
    refine z_aload hC dX9_writesList_106 (lv_at hl 6 rfl) ?_
    refine lv_goto (tgt := 123) hx hb dX9_writesList_108 (by decide) ?_
    exact wk_X9_writesList_L123 hG k9 hk9 _ _ _ _ _ _ hk hn hZ (lv_sub hl [1, 2, 3, 4] rfl) hw
def wp_X9_writesList_L90 (D : zD) (post : Unit → zM → Prop) (o : Nat) (k9 : Int32 → Int32 → Int32 → zM → Prop) (x1 : Int32) (x2 : Int32) (x3 : Int32) (x4 : Int32) (x5 : Option Nat) (x6 : Option Nat) (M : zM) : Prop :=
    wp_X9_writesList_L98 D post o k9 x1 x2 x3 x4 x5 x6 (some (D.2.2.2 (10 + 20))) M
set_option maxHeartbeats 4000000 in
set_option maxRecDepth 100000 in
theorem wk_X9_writesList_L90 {p : Program} {l : Launch} {e : Env} {s : State} {m : MethodId} {args : Array Value} {below : List Frame} {meth : Method} {c : Code} {D : zD} {post : Unit → zM → Prop} {o : Nat} (hG : zGx p l s m args meth c cX9_writesList 8 "PluralBranchesModel" D (none) "writesList" []) (k9 : Int32 → Int32 → Int32 → zM → Prop) (hk9 : ∀ {H : Heap} {locs : List Loc} {cells slots : Nat} {ls : Array Slot} (x1 : Int32) (x2 : Int32) (x3 : Int32) (M : zM), cells ≤ 0 → slots ≤ 0 → zS D M H locs → lv_has ls 8 [(0, .ref o), (1, .int x1), (2, .int x2), (3, .int x3)] → k9 x1 x2 x3 M → W p l e rm_X9_writesList s m args below meth c H locs cells slots (vx_MQ below (zQ D zU post) (zX D (fun _ _ => False)) args s 0 0 (zA D)) (F0 m 9 ls [])) : ∀ {H : Heap} {locs : List Loc} {cells slots : Nat} {ls : Array Slot} (x1 : Int32) (x2 : Int32) (x3 : Int32) (x4 : Int32) (x5 : Option Nat) (x6 : Option Nat) (M : zM), cells ≤ 0 → slots ≤ 0 → zS D M H locs → lv_has ls 8 [(0, .ref o), (1, .int x1), (2, .int x2), (3, .int x3), (4, .int x4), (5, va_rf x5), (6, va_rf x6)] → wp_X9_writesList_L90 D post o k9 x1 x2 x3 x4 x5 x6 M → W p l e rm_X9_writesList s m args below meth c H locs cells slots (vx_MQ below (zQ D zU post) (zX D (fun _ _ => False)) args s 0 0 (zA D)) (F0 m 90 ls []) := by
  have hC := hG.1
  have hx := hC.x
  have hb := hC.b
  have hown := hC.o
  have hts := hC.ts
  have hlt := hG.2.2.2.2.2
  intro H locs cells slots ls x1 x2 x3 x4 x5 x6 M hk hn hZ hl hw
  refine z_ldcSw (i := 20) hC rfl dX9_writesList_90 ?_
  refine lv_goto (tgt := 98) hx hb dX9_writesList_93 (by decide) ?_
  exact wk_X9_writesList_L98 hG k9 hk9 _ _ _ _ _ _ _ _ hk hn hZ (lv_sub hl [0, 1, 2, 3, 4, 5, 6] rfl) hw
def wp_X9_writesList_L72 (D : zD) (post : Unit → zM → Prop) (o : Nat) (k9 : Int32 → Int32 → Int32 → zM → Prop) (x1 : Int32) (x2 : Int32) (x3 : Int32) (x4 : Int32) (x5 : Option Nat) (y0 : Option Nat) (M : zM) : Prop :=
    (zgI M o 8 49 fun g25 => ((g25 = 0 → wp_X9_writesList_L90 D post o k9 x1 x2 x3 x4 x5 y0 M) ∧ (¬ g25 = 0 → (zgI M o 8 49 fun g26 => ((¬ g26 = (6 : Int32) → wp_X9_writesList_L98 D post o k9 x1 x2 x3 x4 x5 y0 x5 M) ∧ (g26 = (6 : Int32) → wp_X9_writesList_L90 D post o k9 x1 x2 x3 x4 x5 y0 M))))))
set_option maxHeartbeats 4000000 in
set_option maxRecDepth 100000 in
theorem wk_X9_writesList_L72 {p : Program} {l : Launch} {e : Env} {s : State} {m : MethodId} {args : Array Value} {below : List Frame} {meth : Method} {c : Code} {D : zD} {post : Unit → zM → Prop} {o : Nat} (hG : zGx p l s m args meth c cX9_writesList 8 "PluralBranchesModel" D (none) "writesList" []) (k9 : Int32 → Int32 → Int32 → zM → Prop) (hk9 : ∀ {H : Heap} {locs : List Loc} {cells slots : Nat} {ls : Array Slot} (x1 : Int32) (x2 : Int32) (x3 : Int32) (M : zM), cells ≤ 0 → slots ≤ 0 → zS D M H locs → lv_has ls 8 [(0, .ref o), (1, .int x1), (2, .int x2), (3, .int x3)] → k9 x1 x2 x3 M → W p l e rm_X9_writesList s m args below meth c H locs cells slots (vx_MQ below (zQ D zU post) (zX D (fun _ _ => False)) args s 0 0 (zA D)) (F0 m 9 ls [])) : ∀ {H : Heap} {locs : List Loc} {cells slots : Nat} {ls : Array Slot} (x1 : Int32) (x2 : Int32) (x3 : Int32) (x4 : Int32) (x5 : Option Nat) (y0 : Option Nat) (M : zM), cells ≤ 0 → slots ≤ 0 → zS D M H locs → lv_has ls 8 [(0, .ref o), (1, .int x1), (2, .int x2), (3, .int x3), (4, .int x4), (5, va_rf x5)] → wp_X9_writesList_L72 D post o k9 x1 x2 x3 x4 x5 y0 M → W p l e rm_X9_writesList s m args below meth c H locs cells slots (vx_MQ below (zQ D zU post) (zX D (fun _ _ => False)) args s 0 0 (zA D)) (F0 m 72 ls [va_rf y0]) := by
  have hC := hG.1
  have hx := hC.x
  have hb := hC.b
  have hown := hC.o
  have hts := hC.ts
  have hlt := hG.2.2.2.2.2
  intro H locs cells slots ls x1 x2 x3 x4 x5 y0 M hk hn hZ hl hw
  refine z_astore (i := 6) (lv' := [(6, va_rf y0), (0, .ref o), (1, .int x1), (2, .int x2), (3, .int x3), (4, .int x4), (5, va_rf x5)]) hC dX9_writesList_72 hl (by decide) (zfc rfl (zfk rfl (zfk rfl (zfk rfl (zfk rfl (zfk rfl (zfk (zfa rfl) rfl))))))) (fun ls hl1 => ?_)
  replace hl := hl1
  clear hl1
  refine lv_aload_n hx hb dX9_writesList_74 rfl (lv_at hl 1 rfl) ?_
  obtain ⟨fs0, g29, hM0, hx0, hw⟩ := hw
  refine z_get hC hZ hM0 zc8 49 (by decide) q1769 (fun _ h9 => h9) hx0 dX9_writesList_75 ?_
  refine lv_if_eq (tgt := 90) hx hb dX9_writesList_78 (by decide) (fun c32 => ?_) (fun c32 => ?_)
  · replace hw := hw.1 c32
    exact wk_X9_writesList_L90 hG k9 hk9 _ _ _ _ _ _ _ hk hn hZ (lv_sub hl [1, 2, 3, 4, 5, 6, 0] rfl) hw
  · replace hw := hw.2 c32
    refine lv_aload_n hx hb dX9_writesList_81 rfl (lv_at hl 1 rfl) ?_
    obtain ⟨fs0, g30, hM0, hx0, hw⟩ := hw
    refine z_get hC hZ hM0 zc8 49 (by decide) q1769 (fun _ h9 => h9) hx0 dX9_writesList_82 ?_
    refine lv_bipush (v := 6) hx hb dX9_writesList_85 (by decide) ?_
    refine lv_icmp_ne (tgt := 96) hx hb dX9_writesList_87 (by decide) (fun c31 => ?_) (fun c31 => ?_)
    · replace hw := hw.1 c31
      refine z_aload hC dX9_writesList_96 (lv_at hl 6 rfl) ?_
      exact wk_X9_writesList_L98 hG k9 hk9 _ _ _ _ _ _ _ _ hk hn hZ (lv_sub hl [1, 2, 3, 4, 5, 6, 0] rfl) hw
    · replace hw := hw.2 c31
      exact wk_X9_writesList_L90 hG k9 hk9 _ _ _ _ _ _ _ hk hn hZ (lv_sub hl [1, 2, 3, 4, 5, 6, 0] rfl) hw
def wp_X9_writesList_L30 (D : zD) (post : Unit → zM → Prop) (o : Nat) (k9 : Int32 → Int32 → Int32 → zM → Prop) (x1 : Int32) (x2 : Int32) (x3 : Int32) (y0 : Int32) (M : zM) : Prop :=
    (zgI M o 8 49 fun g33 => (wp_X9_joinerOfTwo D (fun r34 M => (zgI M o 8 49 fun g37 => ((¬ g37 = (4 : Int32) → (zgI M o 8 49 fun g38 => ((¬ g38 = (5 : Int32) → wp_X9_writesList_L72 D post o k9 x1 x2 x3 y0 r34 (some (D.2.2.2 (10 + 19))) M) ∧ (g38 = (5 : Int32) → wp_X9_writesList_L72 D post o k9 x1 x2 x3 y0 r34 (some (D.2.2.2 (10 + 17))) M)))) ∧ (g37 = (4 : Int32) → wp_X9_writesList_L72 D post o k9 x1 x2 x3 y0 r34 (some (D.2.2.2 (10 + 16))) M)))) g33 M))
set_option maxHeartbeats 4000000 in
set_option maxRecDepth 100000 in
theorem wk_X9_writesList_L30 {p : Program} {l : Launch} {e : Env} {s : State} {m : MethodId} {args : Array Value} {below : List Frame} {meth : Method} {c : Code} {D : zD} {post : Unit → zM → Prop} {o : Nat} (hG : zGx p l s m args meth c cX9_writesList 8 "PluralBranchesModel" D (none) "writesList" []) (k9 : Int32 → Int32 → Int32 → zM → Prop) (hk9 : ∀ {H : Heap} {locs : List Loc} {cells slots : Nat} {ls : Array Slot} (x1 : Int32) (x2 : Int32) (x3 : Int32) (M : zM), cells ≤ 0 → slots ≤ 0 → zS D M H locs → lv_has ls 8 [(0, .ref o), (1, .int x1), (2, .int x2), (3, .int x3)] → k9 x1 x2 x3 M → W p l e rm_X9_writesList s m args below meth c H locs cells slots (vx_MQ below (zQ D zU post) (zX D (fun _ _ => False)) args s 0 0 (zA D)) (F0 m 9 ls [])) : ∀ {H : Heap} {locs : List Loc} {cells slots : Nat} {ls : Array Slot} (x1 : Int32) (x2 : Int32) (x3 : Int32) (y0 : Int32) (M : zM), cells ≤ 0 → slots ≤ 0 → zS D M H locs → lv_has ls 8 [(0, .ref o), (1, .int x1), (2, .int x2), (3, .int x3)] → wp_X9_writesList_L30 D post o k9 x1 x2 x3 y0 M → W p l e rm_X9_writesList s m args below meth c H locs cells slots (vx_MQ below (zQ D zU post) (zX D (fun _ _ => False)) args s 0 0 (zA D)) (F0 m 30 ls [.int y0]) := by
  have hC := hG.1
  have hx := hC.x
  have hb := hC.b
  have hown := hC.o
  have hts := hC.ts
  have hlt := hG.2.2.2.2.2
  intro H locs cells slots ls x1 x2 x3 y0 M hk hn hZ hl hw
  refine lv_istore (i := 4) (lv' := [(4, .int y0), (0, .ref o), (1, .int x1), (2, .int x2), (3, .int x3)]) hx hb dX9_writesList_30 hl (by decide) rfl (fun ls hl1 => ?_)
  replace hl := hl1
  clear hl1
  refine lv_aload_n hx hb dX9_writesList_32 rfl (lv_at hl 1 rfl) ?_
  obtain ⟨fs0, g41, hM0, hx0, hw⟩ := hw
  refine z_get hC hZ hM0 zc8 49 (by decide) q1769 (fun _ h9 => h9) hx0 dX9_writesList_33 ?_
  refine z_callR hZ (vx_runS (As := [.int g41]) (rest := []) hC.fix (w_X9_joinerOfTwo hlt hw) (va_cwS 1 hts (lw_S q2157 q2158 q83 q2159) rfl rfl rfl dd_X9_joinerOfTwo ⟨Nat.le_of_ble_eq_true rfl, Nat.le_of_ble_eq_true rfl⟩) (z_preS hC hZ) rfl rfl hl.1 rfl (lv_room (Nat.zero_le _)) dX9_writesList_36 ⟨hk, hn⟩) (fun r42 M H locs hw1 hZ => ?_) (fun q M H locs ci fs E T9 N9 hw hZ hc1 hM1 hb1 => False.elim hw)
  replace hw := hw1
  clear hw1
  refine W.cs (cells' := cells) (slots' := slots) rfl rfl ?_
  refine z_astore (i := 5) (lv' := [(5, va_rf r42), (4, .int y0), (0, .ref o), (1, .int x1), (2, .int x2), (3, .int x3)]) hC dX9_writesList_39 hl (by decide) rfl (fun ls hl1 => ?_)
  replace hl := hl1
  clear hl1
  refine lv_aload_n hx hb dX9_writesList_41 rfl (lv_at hl 2 rfl) ?_
  obtain ⟨fs0, g45, hM0, hx0, hw⟩ := hw
  refine z_get hC hZ hM0 zc8 49 (by decide) q1769 (fun _ h9 => h9) hx0 dX9_writesList_42 ?_
  refine lv_iconst (v := 4) hx hb dX9_writesList_45 (by decide) ?_
  refine lv_icmp_ne (tgt := 55) hx hb dX9_writesList_46 (by decide) (fun c48 => ?_) (fun c48 => ?_)
  · replace hw := hw.1 c48
    refine lv_aload_n hx hb dX9_writesList_55 rfl (lv_at hl 2 rfl) ?_
    obtain ⟨fs0, g46, hM0, hx0, hw⟩ := hw
    refine z_get hC hZ hM0 zc8 49 (by decide) q1769 (fun _ h9 => h9) hx0 dX9_writesList_56 ?_
    refine lv_iconst (v := 5) hx hb dX9_writesList_59 (by decide) ?_
    refine lv_icmp_ne (tgt := 69) hx hb dX9_writesList_60 (by decide) (fun c47 => ?_) (fun c47 => ?_)
    · replace hw := hw.1 c47
      refine z_ldcSw (i := 19) hC rfl dX9_writesList_69 ?_
      exact wk_X9_writesList_L72 hG k9 hk9 _ _ _ _ _ _ _ hk hn hZ (lv_sub hl [2, 3, 4, 5, 1, 0] rfl) hw
    · replace hw := hw.2 c47
      refine z_ldcSw (i := 17) hC rfl dX9_writesList_63 ?_
      refine lv_goto (tgt := 72) hx hb dX9_writesList_66 (by decide) ?_
      exact wk_X9_writesList_L72 hG k9 hk9 _ _ _ _ _ _ _ hk hn hZ (lv_sub hl [2, 3, 4, 5, 1, 0] rfl) hw
  · replace hw := hw.2 c48
    refine z_ldcSw (i := 16) hC rfl dX9_writesList_49 ?_
    refine lv_goto (tgt := 72) hx hb dX9_writesList_52 (by decide) ?_
    exact wk_X9_writesList_L72 hG k9 hk9 _ _ _ _ _ _ _ hk hn hZ (lv_sub hl [2, 3, 4, 5, 1, 0] rfl) hw
def wp_X9_writesList_L9 (D : zD) (post : Unit → zM → Prop) (o : Nat) : Nat → Int32 → Int32 → Int32 → zM → Prop
  | 0 => fun _ _ _ _ => False
  | f + 1 => fun x1 x2 x3 M =>
    ((x2 ≤ x3 → post () M) ∧ (¬ x2 ≤ x3 → ((x3 ≤ 0 → wp_X9_writesList_L126 D post o (wp_X9_writesList_L9 D post o f) x1 x2 x3 M) ∧ (¬ x3 ≤ 0 → ((¬ x3 = (x2 - (1 : Int32)) → wp_X9_writesList_L30 D post o (wp_X9_writesList_L9 D post o f) x1 x2 x3 (0 : Int32) M) ∧ (x3 = (x2 - (1 : Int32)) → wp_X9_writesList_L30 D post o (wp_X9_writesList_L9 D post o f) x1 x2 x3 (1 : Int32) M))))))
set_option maxHeartbeats 4000000 in
set_option maxRecDepth 100000 in
theorem wk_X9_writesList_L9 {p : Program} {l : Launch} {e : Env} {s : State} {m : MethodId} {args : Array Value} {below : List Frame} {meth : Method} {c : Code} {D : zD} {post : Unit → zM → Prop} {o : Nat} (hG : zGx p l s m args meth c cX9_writesList 8 "PluralBranchesModel" D (none) "writesList" []) : ∀ (f : Nat), ∀ {H : Heap} {locs : List Loc} {cells slots : Nat} {ls : Array Slot} (x1 : Int32) (x2 : Int32) (x3 : Int32) (M : zM), cells ≤ 0 → slots ≤ 0 → zS D M H locs → lv_has ls 8 [(0, .ref o), (1, .int x1), (2, .int x2), (3, .int x3)] → wp_X9_writesList_L9 D post o f x1 x2 x3 M → W p l e rm_X9_writesList s m args below meth c H locs cells slots (vx_MQ below (zQ D zU post) (zX D (fun _ _ => False)) args s 0 0 (zA D)) (F0 m 9 ls []) := by
  have hC := hG.1
  have hx := hC.x
  have hb := hC.b
  have hown := hC.o
  have hts := hC.ts
  have hlt := hG.2.2.2.2.2
  intro f
  induction f with
  | zero =>
    intro H locs cells slots ls x1 x2 x3 M hk hn hZ hl hw
    exact absurd hw (fun h => h)
  | succ f ih =>
    intro H locs cells slots ls x1 x2 x3 M hk hn hZ hl hw
    refine lv_iload_n hx hb dX9_writesList_9 rfl (lv_at hl 3 rfl) ?_
    refine lv_iload_n hx hb dX9_writesList_10 rfl (lv_at hl 2 rfl) ?_
    refine lv_icmp_ge (tgt := 147) hx hb dX9_writesList_11 (by decide) (fun c54 => ?_) (fun c54 => ?_)
    · replace hw := hw.1 c54
      exact z_vret hG hZ hk hn hw dX9_writesList_147
    · replace hw := hw.2 c54
      refine lv_iload_n hx hb dX9_writesList_14 rfl (lv_at hl 3 rfl) ?_
      refine lv_if_le (tgt := 126) hx hb dX9_writesList_15 (by decide) (fun c53 => ?_) (fun c53 => ?_)
      · replace hw := hw.1 c53
        exact wk_X9_writesList_L126 hG _ (fun {_ _ _ _ _} _z0 _z1 _z2 _z3 h1 h2 h3 h4 h5 => ih _z0 _z1 _z2 _z3 h1 h2 h3 h4 h5) _ _ _ _ hk hn hZ (lv_sub hl [0, 1, 2, 3] rfl) hw
      · replace hw := hw.2 c53
        refine lv_iload_n hx hb dX9_writesList_18 rfl (lv_at hl 3 rfl) ?_
        refine lv_iload_n hx hb dX9_writesList_19 rfl (lv_at hl 2 rfl) ?_
        refine lv_iconst (v := 1) hx hb dX9_writesList_20 (by decide) ?_
        refine lv_isub hx hb dX9_writesList_21 ?_
        refine lv_icmp_ne (tgt := 29) hx hb dX9_writesList_22 (by decide) (fun c52 => ?_) (fun c52 => ?_)
        · replace hw := hw.1 c52
          refine lv_iconst (v := 0) hx hb dX9_writesList_29 (by decide) ?_
          exact wk_X9_writesList_L30 hG _ (fun {_ _ _ _ _} _z0 _z1 _z2 _z3 h1 h2 h3 h4 h5 => ih _z0 _z1 _z2 _z3 h1 h2 h3 h4 h5) _ _ _ _ _ hk hn hZ (lv_sub hl [0, 1, 2, 3] rfl) hw
        · replace hw := hw.2 c52
          refine lv_iconst (v := 1) hx hb dX9_writesList_25 (by decide) ?_
          refine lv_goto (tgt := 30) hx hb dX9_writesList_26 (by decide) ?_
          exact wk_X9_writesList_L30 hG _ (fun {_ _ _ _ _} _z0 _z1 _z2 _z3 h1 h2 h3 h4 h5 => ih _z0 _z1 _z2 _z3 h1 h2 h3 h4 h5) _ _ _ _ _ hk hn hZ (lv_sub hl [0, 1, 2, 3] rfl) hw
def wp_X9_writesList (D : zD) (post : Unit → zM → Prop) (o : Nat) (a0 : Int32) (M : zM) : Prop :=
    (zgR M o 8 42 fun g55 => ((zd g55 fun b56 => zaI M b56 0 a0 fun v57 => (∃ f, wp_X9_writesList_L9 D post o f a0 v57 (0 : Int32) M))))
set_option maxHeartbeats 4000000 in
set_option maxRecDepth 100000 in
theorem w_X9_writesList {l : Launch} {D : zD} {post : Unit → zM → Prop} (hlt : l.stackTraces = false) {o : Nat} {a0 : Int32} {M : zM} (hw : wp_X9_writesList D post o a0 M) : zMet l D yX9_writesList (ws_ yX9_writesList cX9_writesList 8 (none)) rm_X9_writesList 0 0 [.ref o, .int a0] M zU post (fun _ _ => False) := by
  unfold wp_X9_writesList at hw
  have hlv : lv_args 0 [.ref o, .int a0] = [(0, .ref o), (1, .int a0)] := (zargs1 rfl (zargs1 rfl rfl))
  refine z_ofW hlt (by decide) (Nat.le_trans (zsl1 rfl (zsl1 rfl (Nat.le_refl 0 : (lg_sl []).length ≤ 0))) (Nat.le_of_ble_eq_true rfl)) hlv ?_
  intro p e s m args below meth c ls hG hZ hl
  have hC := hG.1
  have hx := hC.x
  have hb := hC.b
  have hown := hC.o
  have hts := hC.ts
  have hlt := hG.2.2.2.2.2
  obtain ⟨cells, hce⟩ : ∃ z : Nat, z = 0 := ⟨0, rfl⟩
  obtain ⟨slots, hsl⟩ : ∃ z : Nat, z = 0 := ⟨0, rfl⟩
  refine W.cs (cells' := cells) (slots' := slots) hce.symm hsl.symm ?_
  have hk : cells ≤ 0 := Nat.le_of_eq hce
  have hn : slots ≤ 0 := Nat.le_of_eq hsl
  clear hce hsl
  refine lv_aload_n hx hb dX9_writesList_0 rfl (lv_at hl 0 rfl) ?_
  obtain ⟨fs0, g58, hM0, hx0, hw⟩ := hw
  refine z_get hC hZ hM0 zc8 42 (by decide) q1762 (fun _ h9 => h9) hx0 dX9_writesList_1 ?_
  refine lv_iload_n hx hb dX9_writesList_4 rfl (lv_at hl 1 rfl) ?_
  obtain ⟨b59, hr0, hw⟩ := hw
  subst hr0
  obtain ⟨n0, f0, hM0, hi0, hw⟩ := hw
  refine z_iald hC hZ hM0 hi0 dX9_writesList_5 ?_
  generalize f0 _ = v60 at hw ⊢
  refine lv_istore_n (i := 2) (lv' := [(2, .int v60), (0, .ref o), (1, .int a0)]) hx hb dX9_writesList_6 rfl hl (by decide) rfl (fun ls hl1 => ?_)
  replace hl := hl1
  clear hl1
  refine lv_iconst (v := 0) hx hb dX9_writesList_7 (by decide) ?_
  refine lv_istore_n (i := 3) (lv' := [(3, .int (0 : Int32)), (2, .int v60), (0, .ref o), (1, .int a0)]) hx hb dX9_writesList_8 rfl hl (by decide) rfl (fun ls hl1 => ?_)
  replace hl := hl1
  clear hl1
  obtain ⟨f1, hw⟩ := hw
  exact wk_X9_writesList_L9 hG f1 _ _ _ _ hk hn hZ (lv_sub hl [2, 3, 1, 0] rfl) hw
abbrev rm_X9_writesPlainly : Room := { frames := 7, cells := 0, slots := 0, locals := 198 }
def wp_X9_writesPlainly_L82 (D : zD) (post : Unit → zM → Prop) (o : Nat) (M : zM) : Prop :=
    post () M
set_option maxHeartbeats 4000000 in
set_option maxRecDepth 100000 in
theorem wk_X9_writesPlainly_L82 {p : Program} {l : Launch} {e : Env} {s : State} {m : MethodId} {args : Array Value} {below : List Frame} {meth : Method} {c : Code} {D : zD} {post : Unit → zM → Prop} {o : Nat} (hG : zGx p l s m args meth c cX9_writesPlainly 2 "PluralBranchesModel" D (none) "writesPlainly" []) : ∀ {H : Heap} {locs : List Loc} {cells slots : Nat} {ls : Array Slot} (M : zM), cells ≤ 0 → slots ≤ 0 → zS D M H locs → lv_has ls 2 [] → wp_X9_writesPlainly_L82 D post o M → W p l e rm_X9_writesPlainly s m args below meth c H locs cells slots (vx_MQ below (zQ D zU post) (zX D (fun _ _ => False)) args s 0 0 (zA D)) (F0 m 82 ls []) := by
  have hC := hG.1
  have hx := hC.x
  have hb := hC.b
  have hown := hC.o
  have hts := hC.ts
  have hlt := hG.2.2.2.2.2
  intro H locs cells slots ls M hk hn hZ hl hw
  exact z_vret hG hZ hk hn hw dX9_writesPlainly_82
def wp_X9_writesPlainly_L71 (D : zD) (post : Unit → zM → Prop) (o : Nat) (y0 : Option Nat) (y1 : Int32) (M : zM) : Prop :=
    ((zd y0 fun b1 => (zis M b1 [8] ∧ wp_X9_writes D (fun _ M => wp_X9_writesPlainly_L82 D post o M) b1 y1 M)))
set_option maxHeartbeats 4000000 in
set_option maxRecDepth 100000 in
theorem wk_X9_writesPlainly_L71 {p : Program} {l : Launch} {e : Env} {s : State} {m : MethodId} {args : Array Value} {below : List Frame} {meth : Method} {c : Code} {D : zD} {post : Unit → zM → Prop} {o : Nat} (hG : zGx p l s m args meth c cX9_writesPlainly 2 "PluralBranchesModel" D (none) "writesPlainly" []) : ∀ {H : Heap} {locs : List Loc} {cells slots : Nat} {ls : Array Slot} (y0 : Option Nat) (y1 : Int32) (M : zM), cells ≤ 0 → slots ≤ 0 → zS D M H locs → lv_has ls 2 [] → wp_X9_writesPlainly_L71 D post o y0 y1 M → W p l e rm_X9_writesPlainly s m args below meth c H locs cells slots (vx_MQ below (zQ D zU post) (zX D (fun _ _ => False)) args s 0 0 (zA D)) (F0 m 71 ls [.int y1, va_rf y0]) := by
  have hC := hG.1
  have hx := hC.x
  have hb := hC.b
  have hown := hC.o
  have hts := hC.ts
  have hlt := hG.2.2.2.2.2
  intro H locs cells slots ls y0 y1 M hk hn hZ hl hw
  obtain ⟨b5, hr0, hw⟩ := hw
  subst hr0
  obtain ⟨⟨ci0, fs0, hci0, hM0⟩, hw⟩ := hw
  obtain rfl : ci0 = 8 := List.mem_singleton.mp hci0
  refine z_callU hZ (vx_runV (As := [.int y1]) (rest := []) hC.fix (w_X9_writes hlt hw) (cwV 1 hts (lw_V q2137 q2139 qs53 q83 q2140) rfl rfl rfl ⟨rfl, dd_X9_writes⟩ ⟨Nat.le_of_ble_eq_true rfl, Nat.le_of_ble_eq_true rfl⟩) (z_preV hC hZ hM0 zc8) rfl rfl hl.1 rfl (lv_room (Nat.zero_le _)) dX9_writesPlainly_71 ⟨hk, hn⟩) (fun r6 M H locs hw1 hZ => ?_) (fun q M H locs ci fs E T9 N9 hw hZ hc1 hM1 hb1 => False.elim hw)
  replace hw := hw1
  clear hw1
  refine W.cs (cells' := cells) (slots' := slots) rfl rfl ?_
  refine lv_goto (tgt := 82) hx hb dX9_writesPlainly_74 (by decide) ?_
  exact wk_X9_writesPlainly_L82 hG _ hk hn hZ (lv_sub hl [] rfl) hw
def wp_X9_writesPlainly (D : zD) (post : Unit → zM → Prop) (o : Nat) (a0 : Int32) (M : zM) : Prop :=
    (zgR M o 8 41 fun g9 => ((zd g9 fun b10 => zaI M b10 0 a0 fun v11 => ((¬ v11 = (1 : Int32) → (zgR M o 8 41 fun g12 => ((zd g12 fun b13 => zaI M b13 0 a0 fun v14 => ((¬ v14 = (2 : Int32) → ((zis M o [8] ∧ wp_X9_writesList D (fun _ M => wp_X9_writesPlainly_L82 D post o M) o a0 M))) ∧ (v14 = (2 : Int32) → (zgR M o 8 42 fun g18 => ((zd g18 fun b19 => zaI M b19 0 a0 fun v20 => ((¬ v20 = 0 → (zgR M o 8 42 fun g21 => ((zd g21 fun b22 => zaI M b22 0 a0 fun v23 => ((¬ v23 = (1 : Int32) → wp_X9_writesPlainly_L71 D post o (some o) (110 : Int32) M) ∧ (v23 = (1 : Int32) → wp_X9_writesPlainly_L71 D post o (some o) (102 : Int32) M)))))) ∧ (v20 = 0 → wp_X9_writesPlainly_L71 D post o (some o) (109 : Int32) M))))))))))) ∧ (v11 = (1 : Int32) → (zgR M o 8 42 fun g27 => ((zd g27 fun b28 => zaI M b28 0 a0 fun v29 => (zgR M o 8 43 fun g30 => ((zd g30 fun b31 => zaI M b31 0 a0 fun v32 => ((zis M o [8] ∧ wp_X9_writesDecimal D (fun _ M => wp_X9_writesPlainly_L82 D post o M) o v29 v32 M)))))))))))))
set_option maxHeartbeats 4000000 in
set_option maxRecDepth 100000 in
theorem w_X9_writesPlainly {l : Launch} {D : zD} {post : Unit → zM → Prop} (hlt : l.stackTraces = false) {o : Nat} {a0 : Int32} {M : zM} (hw : wp_X9_writesPlainly D post o a0 M) : zMet l D yX9_writesPlainly (ws_ yX9_writesPlainly cX9_writesPlainly 2 (none)) rm_X9_writesPlainly 0 0 [.ref o, .int a0] M zU post (fun _ _ => False) := by
  unfold wp_X9_writesPlainly at hw
  have hlv : lv_args 0 [.ref o, .int a0] = [(0, .ref o), (1, .int a0)] := (zargs1 rfl (zargs1 rfl rfl))
  refine z_ofW hlt (by decide) (Nat.le_trans (zsl1 rfl (zsl1 rfl (Nat.le_refl 0 : (lg_sl []).length ≤ 0))) (Nat.le_of_ble_eq_true rfl)) hlv ?_
  intro p e s m args below meth c ls hG hZ hl
  have hC := hG.1
  have hx := hC.x
  have hb := hC.b
  have hown := hC.o
  have hts := hC.ts
  have hlt := hG.2.2.2.2.2
  obtain ⟨cells, hce⟩ : ∃ z : Nat, z = 0 := ⟨0, rfl⟩
  obtain ⟨slots, hsl⟩ : ∃ z : Nat, z = 0 := ⟨0, rfl⟩
  refine W.cs (cells' := cells) (slots' := slots) hce.symm hsl.symm ?_
  have hk : cells ≤ 0 := Nat.le_of_eq hce
  have hn : slots ≤ 0 := Nat.le_of_eq hsl
  clear hce hsl
  refine lv_aload_n hx hb dX9_writesPlainly_0 rfl (lv_at hl 0 rfl) ?_
  obtain ⟨fs0, g37, hM0, hx0, hw⟩ := hw
  refine z_get hC hZ hM0 zc8 41 (by decide) q1761 (fun _ h9 => h9) hx0 dX9_writesPlainly_1 ?_
  refine lv_iload_n hx hb dX9_writesPlainly_4 rfl (lv_at hl 1 rfl) ?_
  obtain ⟨b38, hr0, hw⟩ := hw
  subst hr0
  obtain ⟨n0, f0, hM0, hi0, hw⟩ := hw
  refine z_iald hC hZ hM0 hi0 dX9_writesPlainly_5 ?_
  generalize f0 _ = v39 at hw ⊢
  refine lv_iconst (v := 1) hx hb dX9_writesPlainly_6 (by decide) ?_
  refine lv_icmp_ne (tgt := 29) hx hb dX9_writesPlainly_7 (by decide) (fun c64 => ?_) (fun c64 => ?_)
  · replace hw := hw.1 c64
    refine lv_aload_n hx hb dX9_writesPlainly_29 rfl (lv_at hl 0 rfl) ?_
    obtain ⟨fs0, g40, hM0, hx0, hw⟩ := hw
    refine z_get hC hZ hM0 zc8 41 (by decide) q1761 (fun _ h9 => h9) hx0 dX9_writesPlainly_30 ?_
    refine lv_iload_n hx hb dX9_writesPlainly_33 rfl (lv_at hl 1 rfl) ?_
    obtain ⟨b41, hr0, hw⟩ := hw
    subst hr0
    obtain ⟨n0, f0, hM0, hi0, hw⟩ := hw
    refine z_iald hC hZ hM0 hi0 dX9_writesPlainly_34 ?_
    generalize f0 _ = v42 at hw ⊢
    refine lv_iconst (v := 2) hx hb dX9_writesPlainly_35 (by decide) ?_
    refine lv_icmp_ne (tgt := 77) hx hb dX9_writesPlainly_36 (by decide) (fun c54 => ?_) (fun c54 => ?_)
    · replace hw := hw.1 c54
      refine lv_aload_n hx hb dX9_writesPlainly_77 rfl (lv_at hl 0 rfl) ?_
      refine lv_iload_n hx hb dX9_writesPlainly_78 rfl (lv_at hl 1 rfl) ?_
      obtain ⟨⟨ci0, fs0, hci0, hM0⟩, hw⟩ := hw
      obtain rfl : ci0 = 8 := List.mem_singleton.mp hci0
      refine z_callU hZ (vx_runV (As := [.int a0]) (rest := []) hC.fix (w_X9_writesList hlt hw) (cwV 1 hts (lw_V q2153 q2155 qs56 q83 q2156) rfl rfl rfl ⟨rfl, dd_X9_writesList⟩ ⟨Nat.le_of_ble_eq_true rfl, Nat.le_of_ble_eq_true rfl⟩) (z_preV hC hZ hM0 zc8) rfl rfl hl.1 rfl (lv_room (Nat.zero_le _)) dX9_writesPlainly_79 ⟨hk, hn⟩) (fun r43 M H locs hw1 hZ => ?_) (fun q M H locs ci fs E T9 N9 hw hZ hc1 hM1 hb1 => False.elim hw)
      replace hw := hw1
      clear hw1
      refine W.cs (cells' := cells) (slots' := slots) rfl rfl ?_
      exact wk_X9_writesPlainly_L82 hG _ hk hn hZ (lv_sub hl [] rfl) hw
    · replace hw := hw.2 c54
      refine lv_aload_n hx hb dX9_writesPlainly_39 rfl (lv_at hl 0 rfl) ?_
      refine lv_aload_n hx hb dX9_writesPlainly_40 rfl (lv_at hl 0 rfl) ?_
      obtain ⟨fs0, g46, hM0, hx0, hw⟩ := hw
      refine z_get hC hZ hM0 zc8 42 (by decide) q1762 (fun _ h9 => h9) hx0 dX9_writesPlainly_41 ?_
      refine lv_iload_n hx hb dX9_writesPlainly_44 rfl (lv_at hl 1 rfl) ?_
      obtain ⟨b47, hr0, hw⟩ := hw
      subst hr0
      obtain ⟨n0, f0, hM0, hi0, hw⟩ := hw
      refine z_iald hC hZ hM0 hi0 dX9_writesPlainly_45 ?_
      generalize f0 _ = v48 at hw ⊢
      refine lv_if_ne (tgt := 54) hx hb dX9_writesPlainly_46 (by decide) (fun c53 => ?_) (fun c53 => ?_)
      · replace hw := hw.1 c53
        refine lv_aload_n hx hb dX9_writesPlainly_54 rfl (lv_at hl 0 rfl) ?_
        obtain ⟨fs0, g49, hM0, hx0, hw⟩ := hw
        refine z_get hC hZ hM0 zc8 42 (by decide) q1762 (fun _ h9 => h9) hx0 dX9_writesPlainly_55 ?_
        refine lv_iload_n hx hb dX9_writesPlainly_58 rfl (lv_at hl 1 rfl) ?_
        obtain ⟨b50, hr0, hw⟩ := hw
        subst hr0
        obtain ⟨n0, f0, hM0, hi0, hw⟩ := hw
        refine z_iald hC hZ hM0 hi0 dX9_writesPlainly_59 ?_
        generalize f0 _ = v51 at hw ⊢
        refine lv_iconst (v := 1) hx hb dX9_writesPlainly_60 (by decide) ?_
        refine lv_icmp_ne (tgt := 69) hx hb dX9_writesPlainly_61 (by decide) (fun c52 => ?_) (fun c52 => ?_)
        · replace hw := hw.1 c52
          refine lv_bipush (v := 110) hx hb dX9_writesPlainly_69 (by decide) ?_
          exact wk_X9_writesPlainly_L71 hG _ _ _ hk hn hZ (lv_sub hl [] rfl) hw
        · replace hw := hw.2 c52
          refine lv_bipush (v := 102) hx hb dX9_writesPlainly_64 (by decide) ?_
          refine lv_goto (tgt := 71) hx hb dX9_writesPlainly_66 (by decide) ?_
          exact wk_X9_writesPlainly_L71 hG _ _ _ hk hn hZ (lv_sub hl [] rfl) hw
      · replace hw := hw.2 c53
        refine lv_bipush (v := 109) hx hb dX9_writesPlainly_49 (by decide) ?_
        refine lv_goto (tgt := 71) hx hb dX9_writesPlainly_51 (by decide) ?_
        exact wk_X9_writesPlainly_L71 hG _ _ _ hk hn hZ (lv_sub hl [] rfl) hw
  · replace hw := hw.2 c64
    refine lv_aload_n hx hb dX9_writesPlainly_10 rfl (lv_at hl 0 rfl) ?_
    refine lv_aload_n hx hb dX9_writesPlainly_11 rfl (lv_at hl 0 rfl) ?_
    obtain ⟨fs0, g55, hM0, hx0, hw⟩ := hw
    refine z_get hC hZ hM0 zc8 42 (by decide) q1762 (fun _ h9 => h9) hx0 dX9_writesPlainly_12 ?_
    refine lv_iload_n hx hb dX9_writesPlainly_15 rfl (lv_at hl 1 rfl) ?_
    obtain ⟨b56, hr0, hw⟩ := hw
    subst hr0
    obtain ⟨n0, f0, hM0, hi0, hw⟩ := hw
    refine z_iald hC hZ hM0 hi0 dX9_writesPlainly_16 ?_
    generalize f0 _ = v57 at hw ⊢
    refine lv_aload_n hx hb dX9_writesPlainly_17 rfl (lv_at hl 0 rfl) ?_
    obtain ⟨fs0, g58, hM0, hx0, hw⟩ := hw
    refine z_get hC hZ hM0 zc8 43 (by decide) q1763 (fun _ h9 => h9) hx0 dX9_writesPlainly_18 ?_
    refine lv_iload_n hx hb dX9_writesPlainly_21 rfl (lv_at hl 1 rfl) ?_
    obtain ⟨b59, hr0, hw⟩ := hw
    subst hr0
    obtain ⟨n0, f0, hM0, hi0, hw⟩ := hw
    refine z_iald hC hZ hM0 hi0 dX9_writesPlainly_22 ?_
    generalize f0 _ = v60 at hw ⊢
    obtain ⟨⟨ci0, fs0, hci0, hM0⟩, hw⟩ := hw
    obtain rfl : ci0 = 8 := List.mem_singleton.mp hci0
    refine z_callU hZ (vx_runV (As := [.int v57, .int v60]) (rest := []) hC.fix (w_X9_writesDecimal hlt hw) (cwV 2 hts (lw_V q2133 q2135 qs52 q83 q2136) rfl rfl rfl ⟨rfl, dd_X9_writesDecimal⟩ ⟨Nat.le_of_ble_eq_true rfl, Nat.le_of_ble_eq_true rfl⟩) (z_preV hC hZ hM0 zc8) rfl rfl hl.1 rfl (lv_room (Nat.zero_le _)) dX9_writesPlainly_23 ⟨hk, hn⟩) (fun r61 M H locs hw1 hZ => ?_) (fun q M H locs ci fs E T9 N9 hw hZ hc1 hM1 hb1 => False.elim hw)
    replace hw := hw1
    clear hw1
    refine W.cs (cells' := cells) (slots' := slots) rfl rfl ?_
    refine lv_goto (tgt := 82) hx hb dX9_writesPlainly_26 (by decide) ?_
    exact wk_X9_writesPlainly_L82 hG _ hk hn hZ (lv_sub hl [] rfl) hw
abbrev rm_X9_writesBrace (d : Nat) : Room := { frames := 8 + 5 * d, cells := 0, slots := 0, locals := 227 + 121 * d }
abbrev rm_X9_writesMessage (d : Nat) : Room := { frames := 4 + 5 * d, cells := 0, slots := 0, locals := 135 + 121 * d }
def wp_X9_writesBrace_L309 (D : zD) (P : (Unit → zM → Prop) → Nat → Int32 → Int32 → Int32 → zM → Prop) (post : Unit → zM → Prop) (o : Nat) (M : zM) : Prop :=
    post () M
set_option maxHeartbeats 4000000 in
set_option maxRecDepth 100000 in
theorem wk_X9_writesBrace_L309 {p : Program} {l : Launch} {e : Env} {s : State} {m : MethodId} {args : Array Value} {below : List Frame} {meth : Method} {c : Code} {D : zD} {P : (Unit → zM → Prop) → Nat → Int32 → Int32 → Int32 → zM → Prop} {post : Unit → zM → Prop} {d : Nat} {o : Nat} (hG : zGx p l s m args meth c cX9_writesBrace 10 "PluralBranchesModel" D (none) "writesBrace" []) (hP : ∀ (post : Unit → zM → Prop) (o : Nat) (a0 : Int32) (a1 : Int32) (a2 : Int32) (M : zM), P post o a0 a1 a2 M → zMet l D yX9_writesMessage (ws_ yX9_writesMessage cX9_writesMessage 6 (none)) (rm_X9_writesMessage d) 0 0 [.ref o, .int a0, .int a1, .int a2] M zU post (fun _ _ => False)) : ∀ {H : Heap} {locs : List Loc} {cells slots : Nat} {ls : Array Slot} (M : zM), cells ≤ 0 → slots ≤ 0 → zS D M H locs → lv_has ls 10 [] → wp_X9_writesBrace_L309 D P post o M → W p l e (rm_X9_writesBrace d) s m args below meth c H locs cells slots (vx_MQ below (zQ D zU post) (zX D (fun _ _ => False)) args s 0 0 (zA D)) (F0 m 309 ls []) := by
  have hC := hG.1
  have hx := hC.x
  have hb := hC.b
  have hown := hC.o
  have hts := hC.ts
  have hlt := hG.2.2.2.2.2
  intro H locs cells slots ls M hk hn hZ hl hw
  exact z_vret hG hZ hk hn hw dX9_writesBrace_309
def wp_X9_writesBrace_L149 (D : zD) (P : (Unit → zM → Prop) → Nat → Int32 → Int32 → Int32 → zM → Prop) (post : Unit → zM → Prop) (o : Nat) (x4 : Int32) (M : zM) : Prop :=
    ((zis M o [8] ∧ wp_X9_writesPlainly D (fun _ M => wp_X9_writesBrace_L309 D P post o M) o x4 M))
set_option maxHeartbeats 4000000 in
set_option maxRecDepth 100000 in
theorem wk_X9_writesBrace_L149 {p : Program} {l : Launch} {e : Env} {s : State} {m : MethodId} {args : Array Value} {below : List Frame} {meth : Method} {c : Code} {D : zD} {P : (Unit → zM → Prop) → Nat → Int32 → Int32 → Int32 → zM → Prop} {post : Unit → zM → Prop} {d : Nat} {o : Nat} (hG : zGx p l s m args meth c cX9_writesBrace 10 "PluralBranchesModel" D (none) "writesBrace" []) (hP : ∀ (post : Unit → zM → Prop) (o : Nat) (a0 : Int32) (a1 : Int32) (a2 : Int32) (M : zM), P post o a0 a1 a2 M → zMet l D yX9_writesMessage (ws_ yX9_writesMessage cX9_writesMessage 6 (none)) (rm_X9_writesMessage d) 0 0 [.ref o, .int a0, .int a1, .int a2] M zU post (fun _ _ => False)) : ∀ {H : Heap} {locs : List Loc} {cells slots : Nat} {ls : Array Slot} (x4 : Int32) (M : zM), cells ≤ 0 → slots ≤ 0 → zS D M H locs → lv_has ls 10 [(0, .ref o), (4, .int x4)] → wp_X9_writesBrace_L149 D P post o x4 M → W p l e (rm_X9_writesBrace d) s m args below meth c H locs cells slots (vx_MQ below (zQ D zU post) (zX D (fun _ _ => False)) args s 0 0 (zA D)) (F0 m 149 ls []) := by
  have hC := hG.1
  have hx := hC.x
  have hb := hC.b
  have hown := hC.o
  have hts := hC.ts
  have hlt := hG.2.2.2.2.2
  intro H locs cells slots ls x4 M hk hn hZ hl hw
  refine lv_aload_n hx hb dX9_writesBrace_149 rfl (lv_at hl 0 rfl) ?_
  refine lv_iload hx hb dX9_writesBrace_150 (lv_at hl 1 rfl) ?_
  obtain ⟨⟨ci0, fs0, hci0, hM0⟩, hw⟩ := hw
  obtain rfl : ci0 = 8 := List.mem_singleton.mp hci0
  refine z_callU hZ (vx_runV (As := [.int x4]) (rest := []) hC.fix (w_X9_writesPlainly hlt hw) (cwV 1 hts (lw_V q2129 q2131 qs51 q83 q2132) rfl rfl rfl ⟨rfl, dd_X9_writesPlainly⟩ ⟨(show 7 + 1 ≤ 8 + 5 * d by omega), (show 8 + (2 + 11) + (198) ≤ 227 + 121 * d by omega)⟩) (z_preV hC hZ hM0 zc8) rfl rfl hl.1 rfl (lv_room (Nat.zero_le _)) dX9_writesBrace_152 ⟨hk, hn⟩) (fun r4 M H locs hw1 hZ => ?_) (fun q M H locs ci fs E T9 N9 hw hZ hc1 hM1 hb1 => False.elim hw)
  replace hw := hw1
  clear hw1
  refine W.cs (cells' := cells) (slots' := slots) rfl rfl ?_
  refine lv_goto (tgt := 309) hx hb dX9_writesBrace_155 (by decide) ?_
  exact wk_X9_writesBrace_L309 hG hP _ hk hn hZ (lv_sub hl [] rfl) hw
def wp_X9_writesBrace_L306 (D : zD) (P : (Unit → zM → Prop) → Nat → Int32 → Int32 → Int32 → zM → Prop) (post : Unit → zM → Prop) (o : Nat) (y0 : Option Nat) (y1 : Int32) (y2 : Int32) (y3 : Int32) (M : zM) : Prop :=
    ((zd y0 fun b7 => (zis M b7 [8] ∧ P (fun _ M => wp_X9_writesBrace_L309 D P post o M) b7 y1 y2 y3 M)))
set_option maxHeartbeats 4000000 in
set_option maxRecDepth 100000 in
theorem wk_X9_writesBrace_L306 {p : Program} {l : Launch} {e : Env} {s : State} {m : MethodId} {args : Array Value} {below : List Frame} {meth : Method} {c : Code} {D : zD} {P : (Unit → zM → Prop) → Nat → Int32 → Int32 → Int32 → zM → Prop} {post : Unit → zM → Prop} {d : Nat} {o : Nat} (hG : zGx p l s m args meth c cX9_writesBrace 10 "PluralBranchesModel" D (none) "writesBrace" []) (hP : ∀ (post : Unit → zM → Prop) (o : Nat) (a0 : Int32) (a1 : Int32) (a2 : Int32) (M : zM), P post o a0 a1 a2 M → zMet l D yX9_writesMessage (ws_ yX9_writesMessage cX9_writesMessage 6 (none)) (rm_X9_writesMessage d) 0 0 [.ref o, .int a0, .int a1, .int a2] M zU post (fun _ _ => False)) : ∀ {H : Heap} {locs : List Loc} {cells slots : Nat} {ls : Array Slot} (y0 : Option Nat) (y1 : Int32) (y2 : Int32) (y3 : Int32) (M : zM), cells ≤ 0 → slots ≤ 0 → zS D M H locs → lv_has ls 10 [] → wp_X9_writesBrace_L306 D P post o y0 y1 y2 y3 M → W p l e (rm_X9_writesBrace d) s m args below meth c H locs cells slots (vx_MQ below (zQ D zU post) (zX D (fun _ _ => False)) args s 0 0 (zA D)) (F0 m 306 ls [.int y3, .int y2, .int y1, va_rf y0]) := by
  have hC := hG.1
  have hx := hC.x
  have hb := hC.b
  have hown := hC.o
  have hts := hC.ts
  have hlt := hG.2.2.2.2.2
  intro H locs cells slots ls y0 y1 y2 y3 M hk hn hZ hl hw
  obtain ⟨b11, hr0, hw⟩ := hw
  subst hr0
  obtain ⟨⟨ci0, fs0, hci0, hM0⟩, hw⟩ := hw
  obtain rfl : ci0 = 8 := List.mem_singleton.mp hci0
  refine z_callU hZ (vx_runV (As := [.int y1, .int y2, .int y3]) (rest := []) hC.fix (hP _ _ _ _ _ _ hw) (cwV 3 hts (lw_V q2121 q2123 qs49 q83 q2124) rfl rfl rfl ⟨rfl, dd_X9_writesMessage⟩ ⟨(show 4 + 5 * d + 1 ≤ 8 + 5 * d by omega), (show 8 + (6 + 11) + (135 + 121 * d) ≤ 227 + 121 * d by omega)⟩) (z_preV hC hZ hM0 zc8) rfl rfl hl.1 rfl (lv_room (Nat.zero_le _)) dX9_writesBrace_306 ⟨hk, hn⟩) (fun r12 M H locs hw1 hZ => ?_) (fun q M H locs ci fs E T9 N9 hw hZ hc1 hM1 hb1 => False.elim hw)
  replace hw := hw1
  clear hw1
  refine W.cs (cells' := cells) (slots' := slots) rfl rfl ?_
  exact wk_X9_writesBrace_L309 hG hP _ hk hn hZ (lv_sub hl [] rfl) hw
def wp_X9_writesBrace_L271 (D : zD) (P : (Unit → zM → Prop) → Nat → Int32 → Int32 → Int32 → zM → Prop) (post : Unit → zM → Prop) (o : Nat) (x1 : Int32) (x3 : Int32) (x4 : Int32) (x5 : Int32) (x8 : Int32) (y0 : Int32) (M : zM) : Prop :=
    (zgR M o 8 21 fun g15 => ((zd g15 fun b16 => zaI M b16 0 (((10 : Int32) * (((8 : Int32) * x1) + x8)) + y0) fun v17 => ((¬ x5 = (112 : Int32) → wp_X9_writesBrace_L306 D P post o (some o) x1 v17 x3 M) ∧ (x5 = (112 : Int32) → wp_X9_writesBrace_L306 D P post o (some o) x1 v17 x4 M)))))
set_option maxHeartbeats 4000000 in
set_option maxRecDepth 100000 in
theorem wk_X9_writesBrace_L271 {p : Program} {l : Launch} {e : Env} {s : State} {m : MethodId} {args : Array Value} {below : List Frame} {meth : Method} {c : Code} {D : zD} {P : (Unit → zM → Prop) → Nat → Int32 → Int32 → Int32 → zM → Prop} {post : Unit → zM → Prop} {d : Nat} {o : Nat} (hG : zGx p l s m args meth c cX9_writesBrace 10 "PluralBranchesModel" D (none) "writesBrace" []) (hP : ∀ (post : Unit → zM → Prop) (o : Nat) (a0 : Int32) (a1 : Int32) (a2 : Int32) (M : zM), P post o a0 a1 a2 M → zMet l D yX9_writesMessage (ws_ yX9_writesMessage cX9_writesMessage 6 (none)) (rm_X9_writesMessage d) 0 0 [.ref o, .int a0, .int a1, .int a2] M zU post (fun _ _ => False)) : ∀ {H : Heap} {locs : List Loc} {cells slots : Nat} {ls : Array Slot} (x1 : Int32) (x3 : Int32) (x4 : Int32) (x5 : Int32) (x8 : Int32) (y0 : Int32) (M : zM), cells ≤ 0 → slots ≤ 0 → zS D M H locs → lv_has ls 10 [(0, .ref o), (1, .int x1), (3, .int x3), (4, .int x4), (5, .int x5), (8, .int x8)] → wp_X9_writesBrace_L271 D P post o x1 x3 x4 x5 x8 y0 M → W p l e (rm_X9_writesBrace d) s m args below meth c H locs cells slots (vx_MQ below (zQ D zU post) (zX D (fun _ _ => False)) args s 0 0 (zA D)) (F0 m 271 ls [.int y0]) := by
  have hC := hG.1
  have hx := hC.x
  have hb := hC.b
  have hown := hC.o
  have hts := hC.ts
  have hlt := hG.2.2.2.2.2
  intro H locs cells slots ls x1 x3 x4 x5 x8 y0 M hk hn hZ hl hw
  refine lv_istore (i := 9) (lv' := [(9, .int y0), (0, .ref o), (1, .int x1), (3, .int x3), (4, .int x4), (5, .int x5), (8, .int x8)]) hx hb dX9_writesBrace_271 hl (by decide) rfl (fun ls hl1 => ?_)
  replace hl := hl1
  clear hl1
  refine lv_aload_n hx hb dX9_writesBrace_273 rfl (lv_at hl 1 rfl) ?_
  refine lv_iload_n hx hb dX9_writesBrace_274 rfl (lv_at hl 2 rfl) ?_
  refine lv_aload_n hx hb dX9_writesBrace_275 rfl (lv_at hl 1 rfl) ?_
  obtain ⟨fs0, g19, hM0, hx0, hw⟩ := hw
  refine z_get hC hZ hM0 zc8 21 (by decide) q1741 (fun _ h9 => h9) hx0 dX9_writesBrace_276 ?_
  refine lv_bipush (v := 10) hx hb dX9_writesBrace_279 (by decide) ?_
  refine lv_bipush (v := 8) hx hb dX9_writesBrace_281 (by decide) ?_
  refine lv_iload_n hx hb dX9_writesBrace_283 rfl (lv_at hl 2 rfl) ?_
  refine lv_imul hx hb dX9_writesBrace_284 ?_
  refine lv_iload hx hb dX9_writesBrace_285 (lv_at hl 6 rfl) ?_
  refine lv_iadd hx hb dX9_writesBrace_287 ?_
  refine lv_imul hx hb dX9_writesBrace_288 ?_
  refine lv_iload hx hb dX9_writesBrace_289 (lv_at hl 0 rfl) ?_
  refine lv_iadd hx hb dX9_writesBrace_291 ?_
  obtain ⟨b20, hr0, hw⟩ := hw
  subst hr0
  obtain ⟨n0, f0, hM0, hi0, hw⟩ := hw
  refine z_iald hC hZ hM0 hi0 dX9_writesBrace_292 ?_
  generalize f0 _ = v21 at hw ⊢
  refine lv_iload hx hb dX9_writesBrace_293 (lv_at hl 5 rfl) ?_
  refine lv_bipush (v := 112) hx hb dX9_writesBrace_295 (by decide) ?_
  refine lv_icmp_ne (tgt := 305) hx hb dX9_writesBrace_297 (by decide) (fun c22 => ?_) (fun c22 => ?_)
  · replace hw := hw.1 c22
    refine lv_iload_n hx hb dX9_writesBrace_305 rfl (lv_at hl 3 rfl) ?_
    exact wk_X9_writesBrace_L306 hG hP _ _ _ _ _ hk hn hZ (lv_sub hl [] rfl) hw
  · replace hw := hw.2 c22
    refine lv_iload hx hb dX9_writesBrace_300 (lv_at hl 4 rfl) ?_
    refine lv_goto (tgt := 306) hx hb dX9_writesBrace_302 (by decide) ?_
    exact wk_X9_writesBrace_L306 hG hP _ _ _ _ _ hk hn hZ (lv_sub hl [] rfl) hw
def wp_X9_writesBrace_L251 (D : zD) (P : (Unit → zM → Prop) → Nat → Int32 → Int32 → Int32 → zM → Prop) (post : Unit → zM → Prop) (o : Nat) (x1 : Int32) (x3 : Int32) (x4 : Int32) (x5 : Int32) (x8 : Int32) (y0 : Int32) (M : zM) : Prop :=
    ((0 ≤ y0 → wp_X9_writesBrace_L271 D P post o x1 x3 x4 x5 x8 y0 M) ∧ (¬ 0 ≤ y0 → ((zis M o [8] ∧ wp_X9_branchWith D (fun r23 M => wp_X9_writesBrace_L271 D P post o x1 x3 x4 x5 x8 r23 M) o x1 x8 (3 : Int32) M))))
set_option maxHeartbeats 4000000 in
set_option maxRecDepth 100000 in
theorem wk_X9_writesBrace_L251 {p : Program} {l : Launch} {e : Env} {s : State} {m : MethodId} {args : Array Value} {below : List Frame} {meth : Method} {c : Code} {D : zD} {P : (Unit → zM → Prop) → Nat → Int32 → Int32 → Int32 → zM → Prop} {post : Unit → zM → Prop} {d : Nat} {o : Nat} (hG : zGx p l s m args meth c cX9_writesBrace 10 "PluralBranchesModel" D (none) "writesBrace" []) (hP : ∀ (post : Unit → zM → Prop) (o : Nat) (a0 : Int32) (a1 : Int32) (a2 : Int32) (M : zM), P post o a0 a1 a2 M → zMet l D yX9_writesMessage (ws_ yX9_writesMessage cX9_writesMessage 6 (none)) (rm_X9_writesMessage d) 0 0 [.ref o, .int a0, .int a1, .int a2] M zU post (fun _ _ => False)) : ∀ {H : Heap} {locs : List Loc} {cells slots : Nat} {ls : Array Slot} (x1 : Int32) (x3 : Int32) (x4 : Int32) (x5 : Int32) (x8 : Int32) (y0 : Int32) (M : zM), cells ≤ 0 → slots ≤ 0 → zS D M H locs → lv_has ls 10 [(0, .ref o), (1, .int x1), (3, .int x3), (4, .int x4), (5, .int x5), (8, .int x8)] → wp_X9_writesBrace_L251 D P post o x1 x3 x4 x5 x8 y0 M → W p l e (rm_X9_writesBrace d) s m args below meth c H locs cells slots (vx_MQ below (zQ D zU post) (zX D (fun _ _ => False)) args s 0 0 (zA D)) (F0 m 251 ls [.int y0]) := by
  have hC := hG.1
  have hx := hC.x
  have hb := hC.b
  have hown := hC.o
  have hts := hC.ts
  have hlt := hG.2.2.2.2.2
  intro H locs cells slots ls x1 x3 x4 x5 x8 y0 M hk hn hZ hl hw
  refine lv_istore (i := 9) (lv' := [(9, .int y0), (0, .ref o), (1, .int x1), (3, .int x3), (4, .int x4), (5, .int x5), (8, .int x8)]) hx hb dX9_writesBrace_251 hl (by decide) rfl (fun ls hl1 => ?_)
  replace hl := hl1
  clear hl1
  refine lv_iload hx hb dX9_writesBrace_253 (lv_at hl 0 rfl) ?_
  refine lv_if_ge (tgt := 269) hx hb dX9_writesBrace_255 (by decide) (fun c30 => ?_) (fun c30 => ?_)
  · replace hw := hw.1 c30
    refine lv_iload hx hb dX9_writesBrace_269 (lv_at hl 0 rfl) ?_
    exact wk_X9_writesBrace_L271 hG hP _ _ _ _ _ _ _ hk hn hZ (lv_sub hl [1, 2, 3, 4, 5, 6] rfl) hw
  · replace hw := hw.2 c30
    refine lv_aload_n hx hb dX9_writesBrace_258 rfl (lv_at hl 1 rfl) ?_
    refine lv_iload_n hx hb dX9_writesBrace_259 rfl (lv_at hl 2 rfl) ?_
    refine lv_iload hx hb dX9_writesBrace_260 (lv_at hl 6 rfl) ?_
    refine lv_iconst (v := 3) hx hb dX9_writesBrace_262 (by decide) ?_
    obtain ⟨⟨ci0, fs0, hci0, hM0⟩, hw⟩ := hw
    obtain rfl : ci0 = 8 := List.mem_singleton.mp hci0
    refine z_callI hZ (vx_runV (As := [.int x1, .int x8, .int (3 : Int32)]) (rest := []) hC.fix (w_X9_branchWith hlt hw) (cwV 3 hts (lw_V q2057 q2059 qs45 q83 q2060) rfl rfl rfl ⟨rfl, dd_X9_branchWith⟩ ⟨(show 2 + 1 ≤ 8 + 5 * d by omega), (show 8 + (5 + 11) + (87) ≤ 227 + 121 * d by omega)⟩) (z_preV hC hZ hM0 zc8) rfl rfl hl.1 rfl (lv_room (Nat.zero_le _)) dX9_writesBrace_263 ⟨hk, hn⟩) (fun r27 M H locs hw1 hZ => ?_) (fun q M H locs ci fs E T9 N9 hw hZ hc1 hM1 hb1 => False.elim hw)
    replace hw := hw1
    clear hw1
    refine W.cs (cells' := cells) (slots' := slots) rfl rfl ?_
    refine lv_goto (tgt := 271) hx hb dX9_writesBrace_266 (by decide) ?_
    exact wk_X9_writesBrace_L271 hG hP _ _ _ _ _ _ _ hk hn hZ (lv_sub hl [1, 2, 3, 4, 5, 6] rfl) hw
def wp_X9_writesBrace_L116 (D : zD) (P : (Unit → zM → Prop) → Nat → Int32 → Int32 → Int32 → zM → Prop) (post : Unit → zM → Prop) (o : Nat) (x1 : Int32) (x2 : Int32) (x3 : Int32) (x4 : Int32) (x5 : Int32) (y0 : Int32) (M : zM) : Prop :=
    ((¬ y0 = 0 → ((x5 = (125 : Int32) → wp_X9_writesBrace_L149 D P post o x4 M) ∧ (¬ x5 = (125 : Int32) → ((¬ x5 = (108 : Int32) → ((¬ x5 = (110 : Int32) → ((zis M o [8] ∧ wp_X9_choiceAt D (fun r31 M => ((¬ x5 = (112 : Int32) → (zgR M o 8 42 fun g34 => ((zd g34 fun b35 => zaI M b35 0 x4 fun v36 => ((zis M o [8] ∧ wp_X9_branchWith D (fun r37 M => wp_X9_writesBrace_L251 D P post o x1 x3 x4 x5 r31 r37 M) o x1 r31 v36 M)))))) ∧ (x5 = (112 : Int32) → (zgI M o 8 49 fun g40 => (zgR M o 8 42 fun g41 => ((zd g41 fun b42 => zaI M b42 0 x4 fun v43 => (zgR M o 8 43 fun g44 => ((zd g44 fun b45 => zaI M b45 0 x4 fun v46 => ((zis M o [8] ∧ wp_X9_branchOf D (fun r47 M => wp_X9_writesBrace_L251 D P post o x1 x3 x4 x5 r31 r47 M) o x1 g40 r31 v43 v46 M)))))))))))) o x1 x2 M))) ∧ (x5 = (110 : Int32) → ((zis M o [8] ∧ wp_X9_shapes D (fun _ M => (zgR M o 8 42 fun g54 => ((zd g54 fun b55 => zaI M b55 0 x4 fun v56 => (zgR M o 8 43 fun g57 => ((zd g57 fun b58 => zaI M b58 0 x4 fun v59 => ((zis M o [8] ∧ wp_X9_writesShaped D (fun _ M => wp_X9_writesBrace_L309 D P post o M) o v56 v59 M))))))))) o x1 (x2 + (3 : Int32)) M))))) ∧ (x5 = (108 : Int32) → wp_X9_writesBrace_L149 D P post o x4 M))))) ∧ (y0 = 0 → (zp D M o 8 50 (.int ((-20 : Int32) - x4)) fun M => wp_X9_writesBrace_L309 D P post o M)))
set_option maxHeartbeats 4000000 in
set_option maxRecDepth 100000 in
theorem wk_X9_writesBrace_L116 {p : Program} {l : Launch} {e : Env} {s : State} {m : MethodId} {args : Array Value} {below : List Frame} {meth : Method} {c : Code} {D : zD} {P : (Unit → zM → Prop) → Nat → Int32 → Int32 → Int32 → zM → Prop} {post : Unit → zM → Prop} {d : Nat} {o : Nat} (hG : zGx p l s m args meth c cX9_writesBrace 10 "PluralBranchesModel" D (none) "writesBrace" []) (hP : ∀ (post : Unit → zM → Prop) (o : Nat) (a0 : Int32) (a1 : Int32) (a2 : Int32) (M : zM), P post o a0 a1 a2 M → zMet l D yX9_writesMessage (ws_ yX9_writesMessage cX9_writesMessage 6 (none)) (rm_X9_writesMessage d) 0 0 [.ref o, .int a0, .int a1, .int a2] M zU post (fun _ _ => False)) : ∀ {H : Heap} {locs : List Loc} {cells slots : Nat} {ls : Array Slot} (x1 : Int32) (x2 : Int32) (x3 : Int32) (x4 : Int32) (x5 : Int32) (y0 : Int32) (M : zM), cells ≤ 0 → slots ≤ 0 → zS D M H locs → lv_has ls 10 [(0, .ref o), (1, .int x1), (2, .int x2), (3, .int x3), (4, .int x4), (5, .int x5)] → wp_X9_writesBrace_L116 D P post o x1 x2 x3 x4 x5 y0 M → W p l e (rm_X9_writesBrace d) s m args below meth c H locs cells slots (vx_MQ below (zQ D zU post) (zX D (fun _ _ => False)) args s 0 0 (zA D)) (F0 m 116 ls [.int y0]) := by
  have hC := hG.1
  have hx := hC.x
  have hb := hC.b
  have hown := hC.o
  have hts := hC.ts
  have hlt := hG.2.2.2.2.2
  intro H locs cells slots ls x1 x2 x3 x4 x5 y0 M hk hn hZ hl hw
  refine lv_istore (i := 7) (lv' := [(7, .int y0), (0, .ref o), (1, .int x1), (2, .int x2), (3, .int x3), (4, .int x4), (5, .int x5)]) hx hb dX9_writesBrace_116 hl (by decide) rfl (fun ls hl1 => ?_)
  replace hl := hl1
  clear hl1
  refine lv_iload hx hb dX9_writesBrace_118 (lv_at hl 0 rfl) ?_
  refine lv_if_ne (tgt := 135) hx hb dX9_writesBrace_120 (by decide) (fun c104 => ?_) (fun c104 => ?_)
  · replace hw := hw.1 c104
    refine lv_iload hx hb dX9_writesBrace_135 (lv_at hl 6 rfl) ?_
    refine lv_bipush (v := 125) hx hb dX9_writesBrace_137 (by decide) ?_
    refine lv_icmp_eq (tgt := 149) hx hb dX9_writesBrace_139 (by decide) (fun c102 => ?_) (fun c102 => ?_)
    · replace hw := hw.1 c102
      exact wk_X9_writesBrace_L149 hG hP _ _ hk hn hZ (lv_sub hl [1, 5] rfl) hw
    · replace hw := hw.2 c102
      refine lv_iload hx hb dX9_writesBrace_142 (lv_at hl 6 rfl) ?_
      refine lv_bipush (v := 108) hx hb dX9_writesBrace_144 (by decide) ?_
      refine lv_icmp_ne (tgt := 158) hx hb dX9_writesBrace_146 (by decide) (fun c101 => ?_) (fun c101 => ?_)
      · replace hw := hw.1 c101
        refine lv_iload hx hb dX9_writesBrace_158 (lv_at hl 6 rfl) ?_
        refine lv_bipush (v := 110) hx hb dX9_writesBrace_160 (by decide) ?_
        refine lv_icmp_ne (tgt := 194) hx hb dX9_writesBrace_162 (by decide) (fun c100 => ?_) (fun c100 => ?_)
        · replace hw := hw.1 c100
          refine lv_aload_n hx hb dX9_writesBrace_194 rfl (lv_at hl 1 rfl) ?_
          refine lv_iload_n hx hb dX9_writesBrace_195 rfl (lv_at hl 2 rfl) ?_
          refine lv_iload_n hx hb dX9_writesBrace_196 rfl (lv_at hl 3 rfl) ?_
          obtain ⟨⟨ci0, fs0, hci0, hM0⟩, hw⟩ := hw
          obtain rfl : ci0 = 8 := List.mem_singleton.mp hci0
          refine z_callI hZ (vx_runV (As := [.int x1, .int x2]) (rest := []) hC.fix (w_X9_choiceAt hlt hw) (cwV 2 hts (lw_V q2190 q2192 qs62 q83 q2193) rfl rfl rfl ⟨rfl, dd_X9_choiceAt⟩ ⟨(show 1 + 1 ≤ 8 + 5 * d by omega), (show 8 + (4 + 11) + (64) ≤ 227 + 121 * d by omega)⟩) (z_preV hC hZ hM0 zc8) rfl rfl hl.1 rfl (lv_room (Nat.zero_le _)) dX9_writesBrace_197 ⟨hk, hn⟩) (fun r68 M H locs hw1 hZ => ?_) (fun q M H locs ci fs E T9 N9 hw hZ hc1 hM1 hb1 => False.elim hw)
          replace hw := hw1
          clear hw1
          refine W.cs (cells' := cells) (slots' := slots) rfl rfl ?_
          refine lv_istore (i := 8) (lv' := [(8, .int r68), (7, .int y0), (0, .ref o), (1, .int x1), (2, .int x2), (3, .int x3), (4, .int x4), (5, .int x5)]) hx hb dX9_writesBrace_200 hl (by decide) rfl (fun ls hl1 => ?_)
          replace hl := hl1
          clear hl1
          refine lv_iload hx hb dX9_writesBrace_202 (lv_at hl 7 rfl) ?_
          refine lv_bipush (v := 112) hx hb dX9_writesBrace_204 (by decide) ?_
          refine lv_icmp_ne (tgt := 237) hx hb dX9_writesBrace_206 (by decide) (fun c87 => ?_) (fun c87 => ?_)
          · replace hw := hw.1 c87
            refine lv_aload_n hx hb dX9_writesBrace_237 rfl (lv_at hl 2 rfl) ?_
            refine lv_iload_n hx hb dX9_writesBrace_238 rfl (lv_at hl 3 rfl) ?_
            refine lv_iload hx hb dX9_writesBrace_239 (lv_at hl 0 rfl) ?_
            refine lv_aload_n hx hb dX9_writesBrace_241 rfl (lv_at hl 2 rfl) ?_
            obtain ⟨fs0, g71, hM0, hx0, hw⟩ := hw
            refine z_get hC hZ hM0 zc8 42 (by decide) q1762 (fun _ h9 => h9) hx0 dX9_writesBrace_242 ?_
            refine lv_iload hx hb dX9_writesBrace_245 (lv_at hl 6 rfl) ?_
            obtain ⟨b72, hr0, hw⟩ := hw
            subst hr0
            obtain ⟨n0, f0, hM0, hi0, hw⟩ := hw
            refine z_iald hC hZ hM0 hi0 dX9_writesBrace_247 ?_
            generalize f0 _ = v73 at hw ⊢
            obtain ⟨⟨ci0, fs0, hci0, hM0⟩, hw⟩ := hw
            obtain rfl : ci0 = 8 := List.mem_singleton.mp hci0
            refine z_callI hZ (vx_runV (As := [.int x1, .int r68, .int v73]) (rest := []) hC.fix (w_X9_branchWith hlt hw) (cwV 3 hts (lw_V q2057 q2059 qs45 q83 q2060) rfl rfl rfl ⟨rfl, dd_X9_branchWith⟩ ⟨(show 2 + 1 ≤ 8 + 5 * d by omega), (show 8 + (5 + 11) + (87) ≤ 227 + 121 * d by omega)⟩) (z_preV hC hZ hM0 zc8) rfl rfl hl.1 rfl (lv_room (Nat.zero_le _)) dX9_writesBrace_248 ⟨hk, hn⟩) (fun r74 M H locs hw1 hZ => ?_) (fun q M H locs ci fs E T9 N9 hw hZ hc1 hM1 hb1 => False.elim hw)
            replace hw := hw1
            clear hw1
            refine W.cs (cells' := cells) (slots' := slots) rfl rfl ?_
            exact wk_X9_writesBrace_L251 hG hP _ _ _ _ _ _ _ hk hn hZ (lv_sub hl [2, 3, 5, 6, 7, 0] rfl) hw
          · replace hw := hw.2 c87
            refine lv_aload_n hx hb dX9_writesBrace_209 rfl (lv_at hl 2 rfl) ?_
            refine lv_iload_n hx hb dX9_writesBrace_210 rfl (lv_at hl 3 rfl) ?_
            refine lv_aload_n hx hb dX9_writesBrace_211 rfl (lv_at hl 2 rfl) ?_
            obtain ⟨fs0, g77, hM0, hx0, hw⟩ := hw
            refine z_get hC hZ hM0 zc8 49 (by decide) q1769 (fun _ h9 => h9) hx0 dX9_writesBrace_212 ?_
            refine lv_iload hx hb dX9_writesBrace_215 (lv_at hl 0 rfl) ?_
            refine lv_aload_n hx hb dX9_writesBrace_217 rfl (lv_at hl 2 rfl) ?_
            obtain ⟨fs0, g78, hM0, hx0, hw⟩ := hw
            refine z_get hC hZ hM0 zc8 42 (by decide) q1762 (fun _ h9 => h9) hx0 dX9_writesBrace_218 ?_
            refine lv_iload hx hb dX9_writesBrace_221 (lv_at hl 6 rfl) ?_
            obtain ⟨b79, hr0, hw⟩ := hw
            subst hr0
            obtain ⟨n0, f0, hM0, hi0, hw⟩ := hw
            refine z_iald hC hZ hM0 hi0 dX9_writesBrace_223 ?_
            generalize f0 _ = v80 at hw ⊢
            refine lv_aload_n hx hb dX9_writesBrace_224 rfl (lv_at hl 2 rfl) ?_
            obtain ⟨fs0, g81, hM0, hx0, hw⟩ := hw
            refine z_get hC hZ hM0 zc8 43 (by decide) q1763 (fun _ h9 => h9) hx0 dX9_writesBrace_225 ?_
            refine lv_iload hx hb dX9_writesBrace_228 (lv_at hl 6 rfl) ?_
            obtain ⟨b82, hr0, hw⟩ := hw
            subst hr0
            obtain ⟨n0, f0, hM0, hi0, hw⟩ := hw
            refine z_iald hC hZ hM0 hi0 dX9_writesBrace_230 ?_
            generalize f0 _ = v83 at hw ⊢
            obtain ⟨⟨ci0, fs0, hci0, hM0⟩, hw⟩ := hw
            obtain rfl : ci0 = 8 := List.mem_singleton.mp hci0
            refine z_callI hZ (vx_runV (As := [.int x1, .int g77, .int r68, .int v80, .int v83]) (rest := []) hC.fix (w_X9_branchOf hlt hw) (cwV 5 hts (lw_V q2069 q2071 qs47 q83 q2072) rfl rfl rfl ⟨rfl, dd_X9_branchOf⟩ ⟨(show 6 + 1 ≤ 8 + 5 * d by omega), (show 8 + (8 + 11) + (200) ≤ 227 + 121 * d by omega)⟩) (z_preV hC hZ hM0 zc8) rfl rfl hl.1 rfl (lv_room (Nat.zero_le _)) dX9_writesBrace_231 ⟨hk, hn⟩) (fun r84 M H locs hw1 hZ => ?_) (fun q M H locs ci fs E T9 N9 hw hZ hc1 hM1 hb1 => False.elim hw)
            replace hw := hw1
            clear hw1
            refine W.cs (cells' := cells) (slots' := slots) rfl rfl ?_
            refine lv_goto (tgt := 251) hx hb dX9_writesBrace_234 (by decide) ?_
            exact wk_X9_writesBrace_L251 hG hP _ _ _ _ _ _ _ hk hn hZ (lv_sub hl [2, 3, 5, 6, 7, 0] rfl) hw
        · replace hw := hw.2 c100
          refine lv_aload_n hx hb dX9_writesBrace_165 rfl (lv_at hl 1 rfl) ?_
          refine lv_iload_n hx hb dX9_writesBrace_166 rfl (lv_at hl 2 rfl) ?_
          refine lv_iload_n hx hb dX9_writesBrace_167 rfl (lv_at hl 3 rfl) ?_
          refine lv_iconst (v := 3) hx hb dX9_writesBrace_168 (by decide) ?_
          refine lv_iadd hx hb dX9_writesBrace_169 ?_
          obtain ⟨⟨ci0, fs0, hci0, hM0⟩, hw⟩ := hw
          obtain rfl : ci0 = 8 := List.mem_singleton.mp hci0
          refine z_callU hZ (vx_runV (As := [.int x1, .int (x2 + (3 : Int32))]) (rest := []) hC.fix (w_X9_shapes hlt hw) (cwV 2 hts (lw_V q2178 q2180 qs59 q83 q2181) rfl rfl rfl ⟨rfl, dd_X9_shapes⟩ ⟨(show 1 + 1 ≤ 8 + 5 * d by omega), (show 8 + (4 + 11) + (64) ≤ 227 + 121 * d by omega)⟩) (z_preV hC hZ hM0 zc8) rfl rfl hl.1 rfl (lv_room (Nat.zero_le _)) dX9_writesBrace_170 ⟨hk, hn⟩) (fun r88 M H locs hw1 hZ => ?_) (fun q M H locs ci fs E T9 N9 hw hZ hc1 hM1 hb1 => False.elim hw)
          replace hw := hw1
          clear hw1
          refine W.cs (cells' := cells) (slots' := slots) rfl rfl ?_
          refine lv_aload_n hx hb dX9_writesBrace_173 rfl (lv_at hl 1 rfl) ?_
          refine lv_aload_n hx hb dX9_writesBrace_174 rfl (lv_at hl 1 rfl) ?_
          obtain ⟨fs0, g91, hM0, hx0, hw⟩ := hw
          refine z_get hC hZ hM0 zc8 42 (by decide) q1762 (fun _ h9 => h9) hx0 dX9_writesBrace_175 ?_
          refine lv_iload hx hb dX9_writesBrace_178 (lv_at hl 5 rfl) ?_
          obtain ⟨b92, hr0, hw⟩ := hw
          subst hr0
          obtain ⟨n0, f0, hM0, hi0, hw⟩ := hw
          refine z_iald hC hZ hM0 hi0 dX9_writesBrace_180 ?_
          generalize f0 _ = v93 at hw ⊢
          refine lv_aload_n hx hb dX9_writesBrace_181 rfl (lv_at hl 1 rfl) ?_
          obtain ⟨fs0, g94, hM0, hx0, hw⟩ := hw
          refine z_get hC hZ hM0 zc8 43 (by decide) q1763 (fun _ h9 => h9) hx0 dX9_writesBrace_182 ?_
          refine lv_iload hx hb dX9_writesBrace_185 (lv_at hl 5 rfl) ?_
          obtain ⟨b95, hr0, hw⟩ := hw
          subst hr0
          obtain ⟨n0, f0, hM0, hi0, hw⟩ := hw
          refine z_iald hC hZ hM0 hi0 dX9_writesBrace_187 ?_
          generalize f0 _ = v96 at hw ⊢
          obtain ⟨⟨ci0, fs0, hci0, hM0⟩, hw⟩ := hw
          obtain rfl : ci0 = 8 := List.mem_singleton.mp hci0
          refine z_callU hZ (vx_runV (As := [.int v93, .int v96]) (rest := []) hC.fix (w_X9_writesShaped hlt hw) (cwV 2 hts (lw_V q2182 q2184 qs60 q83 q2185) rfl rfl rfl ⟨rfl, dd_X9_writesShaped⟩ ⟨(show 3 + 1 ≤ 8 + 5 * d by omega), (show 8 + (10 + 11) + (111) ≤ 227 + 121 * d by omega)⟩) (z_preV hC hZ hM0 zc8) rfl rfl hl.1 rfl (lv_room (Nat.zero_le _)) dX9_writesBrace_188 ⟨hk, hn⟩) (fun r97 M H locs hw1 hZ => ?_) (fun q M H locs ci fs E T9 N9 hw hZ hc1 hM1 hb1 => False.elim hw)
          replace hw := hw1
          clear hw1
          refine W.cs (cells' := cells) (slots' := slots) rfl rfl ?_
          refine lv_goto (tgt := 309) hx hb dX9_writesBrace_191 (by decide) ?_
          exact wk_X9_writesBrace_L309 hG hP _ hk hn hZ (lv_sub hl [] rfl) hw
      · replace hw := hw.2 c101
        exact wk_X9_writesBrace_L149 hG hP _ _ hk hn hZ (lv_sub hl [1, 5] rfl) hw
  · replace hw := hw.2 c104
    refine lv_aload_n hx hb dX9_writesBrace_123 rfl (lv_at hl 1 rfl) ?_
    refine lv_bipush (v := (-20)) hx hb dX9_writesBrace_124 (by decide) ?_
    refine lv_iload hx hb dX9_writesBrace_126 (lv_at hl 5 rfl) ?_
    refine lv_isub hx hb dX9_writesBrace_128 ?_
    obtain ⟨fs0, hM0, hb0, hk0, hw⟩ := hw
    refine z_put hC hZ hM0 hb0 zc8 50 (by decide) q1770 (fun _ h9 => h9) (by decide) rfl rfl hk0 dX9_writesBrace_129 (fun H locs hZ => ?_)
    generalize zu M _ _ = M at hw hZ
    refine lv_goto (tgt := 309) hx hb dX9_writesBrace_132 (by decide) ?_
    exact wk_X9_writesBrace_L309 hG hP _ hk hn hZ (lv_sub hl [] rfl) hw
def wp_X9_writesBrace_L74 (D : zD) (P : (Unit → zM → Prop) → Nat → Int32 → Int32 → Int32 → zM → Prop) (post : Unit → zM → Prop) (o : Nat) (x1 : Int32) (x2 : Int32) (x3 : Int32) (x4 : Int32) (x5 : Int32) (y0 : Int32) (M : zM) : Prop :=
    ((¬ y0 = 0 → (zgR M o 8 41 fun g105 => ((zd g105 fun b106 => zaI M b106 0 x4 fun v107 => ((¬ v107 = y0 → wp_X9_writesBrace_L116 D P post o x1 x2 x3 x4 x5 (0 : Int32) M) ∧ (v107 = y0 → wp_X9_writesBrace_L116 D P post o x1 x2 x3 x4 x5 (1 : Int32) M)))))) ∧ (y0 = 0 → (zgR M o 8 41 fun g109 => ((zd g109 fun b110 => zaI M b110 0 x4 fun v111 => ((v111 = 0 → wp_X9_writesBrace_L116 D P post o x1 x2 x3 x4 x5 (0 : Int32) M) ∧ (¬ v111 = 0 → wp_X9_writesBrace_L116 D P post o x1 x2 x3 x4 x5 (1 : Int32) M)))))))
set_option maxHeartbeats 4000000 in
set_option maxRecDepth 100000 in
theorem wk_X9_writesBrace_L74 {p : Program} {l : Launch} {e : Env} {s : State} {m : MethodId} {args : Array Value} {below : List Frame} {meth : Method} {c : Code} {D : zD} {P : (Unit → zM → Prop) → Nat → Int32 → Int32 → Int32 → zM → Prop} {post : Unit → zM → Prop} {d : Nat} {o : Nat} (hG : zGx p l s m args meth c cX9_writesBrace 10 "PluralBranchesModel" D (none) "writesBrace" []) (hP : ∀ (post : Unit → zM → Prop) (o : Nat) (a0 : Int32) (a1 : Int32) (a2 : Int32) (M : zM), P post o a0 a1 a2 M → zMet l D yX9_writesMessage (ws_ yX9_writesMessage cX9_writesMessage 6 (none)) (rm_X9_writesMessage d) 0 0 [.ref o, .int a0, .int a1, .int a2] M zU post (fun _ _ => False)) : ∀ {H : Heap} {locs : List Loc} {cells slots : Nat} {ls : Array Slot} (x1 : Int32) (x2 : Int32) (x3 : Int32) (x4 : Int32) (x5 : Int32) (y0 : Int32) (M : zM), cells ≤ 0 → slots ≤ 0 → zS D M H locs → lv_has ls 10 [(0, .ref o), (1, .int x1), (2, .int x2), (3, .int x3), (4, .int x4), (5, .int x5)] → wp_X9_writesBrace_L74 D P post o x1 x2 x3 x4 x5 y0 M → W p l e (rm_X9_writesBrace d) s m args below meth c H locs cells slots (vx_MQ below (zQ D zU post) (zX D (fun _ _ => False)) args s 0 0 (zA D)) (F0 m 74 ls [.int y0]) := by
  have hC := hG.1
  have hx := hC.x
  have hb := hC.b
  have hown := hC.o
  have hts := hC.ts
  have hlt := hG.2.2.2.2.2
  intro H locs cells slots ls x1 x2 x3 x4 x5 y0 M hk hn hZ hl hw
  refine lv_istore (i := 6) (lv' := [(6, .int y0), (0, .ref o), (1, .int x1), (2, .int x2), (3, .int x3), (4, .int x4), (5, .int x5)]) hx hb dX9_writesBrace_74 hl (by decide) rfl (fun ls hl1 => ?_)
  replace hl := hl1
  clear hl1
  refine lv_iload hx hb dX9_writesBrace_76 (lv_at hl 0 rfl) ?_
  refine lv_if_ne (tgt := 99) hx hb dX9_writesBrace_78 (by decide) (fun c122 => ?_) (fun c122 => ?_)
  · replace hw := hw.1 c122
    refine lv_aload_n hx hb dX9_writesBrace_99 rfl (lv_at hl 1 rfl) ?_
    obtain ⟨fs0, g114, hM0, hx0, hw⟩ := hw
    refine z_get hC hZ hM0 zc8 41 (by decide) q1761 (fun _ h9 => h9) hx0 dX9_writesBrace_100 ?_
    refine lv_iload hx hb dX9_writesBrace_103 (lv_at hl 5 rfl) ?_
    obtain ⟨b115, hr0, hw⟩ := hw
    subst hr0
    obtain ⟨n0, f0, hM0, hi0, hw⟩ := hw
    refine z_iald hC hZ hM0 hi0 dX9_writesBrace_105 ?_
    generalize f0 _ = v116 at hw ⊢
    refine lv_iload hx hb dX9_writesBrace_106 (lv_at hl 0 rfl) ?_
    refine lv_icmp_ne (tgt := 115) hx hb dX9_writesBrace_108 (by decide) (fun c117 => ?_) (fun c117 => ?_)
    · replace hw := hw.1 c117
      refine lv_iconst (v := 0) hx hb dX9_writesBrace_115 (by decide) ?_
      exact wk_X9_writesBrace_L116 hG hP _ _ _ _ _ _ _ hk hn hZ (lv_sub hl [1, 2, 3, 4, 5, 6] rfl) hw
    · replace hw := hw.2 c117
      refine lv_iconst (v := 1) hx hb dX9_writesBrace_111 (by decide) ?_
      refine lv_goto (tgt := 116) hx hb dX9_writesBrace_112 (by decide) ?_
      exact wk_X9_writesBrace_L116 hG hP _ _ _ _ _ _ _ hk hn hZ (lv_sub hl [1, 2, 3, 4, 5, 6] rfl) hw
  · replace hw := hw.2 c122
    refine lv_aload_n hx hb dX9_writesBrace_81 rfl (lv_at hl 1 rfl) ?_
    obtain ⟨fs0, g118, hM0, hx0, hw⟩ := hw
    refine z_get hC hZ hM0 zc8 41 (by decide) q1761 (fun _ h9 => h9) hx0 dX9_writesBrace_82 ?_
    refine lv_iload hx hb dX9_writesBrace_85 (lv_at hl 5 rfl) ?_
    obtain ⟨b119, hr0, hw⟩ := hw
    subst hr0
    obtain ⟨n0, f0, hM0, hi0, hw⟩ := hw
    refine z_iald hC hZ hM0 hi0 dX9_writesBrace_87 ?_
    generalize f0 _ = v120 at hw ⊢
    refine lv_if_eq (tgt := 95) hx hb dX9_writesBrace_88 (by decide) (fun c121 => ?_) (fun c121 => ?_)
    · replace hw := hw.1 c121
      refine lv_iconst (v := 0) hx hb dX9_writesBrace_95 (by decide) ?_
      refine lv_goto (tgt := 116) hx hb dX9_writesBrace_96 (by decide) ?_
      exact wk_X9_writesBrace_L116 hG hP _ _ _ _ _ _ _ hk hn hZ (lv_sub hl [1, 2, 3, 4, 5, 6] rfl) hw
    · replace hw := hw.2 c121
      refine lv_iconst (v := 1) hx hb dX9_writesBrace_91 (by decide) ?_
      refine lv_goto (tgt := 116) hx hb dX9_writesBrace_92 (by decide) ?_
      exact wk_X9_writesBrace_L116 hG hP _ _ _ _ _ _ _ hk hn hZ (lv_sub hl [1, 2, 3, 4, 5, 6] rfl) hw
def wp_X9_writesBrace_L58 (D : zD) (P : (Unit → zM → Prop) → Nat → Int32 → Int32 → Int32 → zM → Prop) (post : Unit → zM → Prop) (o : Nat) (x1 : Int32) (x2 : Int32) (x3 : Int32) (x4 : Int32) (x5 : Int32) (M : zM) : Prop :=
    wp_X9_writesBrace_L74 D P post o x1 x2 x3 x4 x5 (1 : Int32) M
set_option maxHeartbeats 4000000 in
set_option maxRecDepth 100000 in
theorem wk_X9_writesBrace_L58 {p : Program} {l : Launch} {e : Env} {s : State} {m : MethodId} {args : Array Value} {below : List Frame} {meth : Method} {c : Code} {D : zD} {P : (Unit → zM → Prop) → Nat → Int32 → Int32 → Int32 → zM → Prop} {post : Unit → zM → Prop} {d : Nat} {o : Nat} (hG : zGx p l s m args meth c cX9_writesBrace 10 "PluralBranchesModel" D (none) "writesBrace" []) (hP : ∀ (post : Unit → zM → Prop) (o : Nat) (a0 : Int32) (a1 : Int32) (a2 : Int32) (M : zM), P post o a0 a1 a2 M → zMet l D yX9_writesMessage (ws_ yX9_writesMessage cX9_writesMessage 6 (none)) (rm_X9_writesMessage d) 0 0 [.ref o, .int a0, .int a1, .int a2] M zU post (fun _ _ => False)) : ∀ {H : Heap} {locs : List Loc} {cells slots : Nat} {ls : Array Slot} (x1 : Int32) (x2 : Int32) (x3 : Int32) (x4 : Int32) (x5 : Int32) (M : zM), cells ≤ 0 → slots ≤ 0 → zS D M H locs → lv_has ls 10 [(0, .ref o), (1, .int x1), (2, .int x2), (3, .int x3), (4, .int x4), (5, .int x5)] → wp_X9_writesBrace_L58 D P post o x1 x2 x3 x4 x5 M → W p l e (rm_X9_writesBrace d) s m args below meth c H locs cells slots (vx_MQ below (zQ D zU post) (zX D (fun _ _ => False)) args s 0 0 (zA D)) (F0 m 58 ls []) := by
  have hC := hG.1
  have hx := hC.x
  have hb := hC.b
  have hown := hC.o
  have hts := hC.ts
  have hlt := hG.2.2.2.2.2
  intro H locs cells slots ls x1 x2 x3 x4 x5 M hk hn hZ hl hw
  refine lv_iconst (v := 1) hx hb dX9_writesBrace_58 (by decide) ?_
  refine lv_goto (tgt := 74) hx hb dX9_writesBrace_59 (by decide) ?_
  exact wk_X9_writesBrace_L74 hG hP _ _ _ _ _ _ _ hk hn hZ (lv_sub hl [0, 1, 2, 3, 4, 5] rfl) hw
def wp_X9_writesBrace (D : zD) (P : (Unit → zM → Prop) → Nat → Int32 → Int32 → Int32 → zM → Prop) (post : Unit → zM → Prop) (o : Nat) (a0 : Int32) (a1 : Int32) (a2 : Int32) (M : zM) : Prop :=
    (zgR M o 8 10 fun g123 => ((zd g123 fun b124 => zaI M b124 0 ((((120 : Int32) * a0) + a1) + (1 : Int32)) fun v125 => (zgR M o 8 10 fun g126 => ((zd g126 fun b127 => zaI M b127 0 ((((120 : Int32) * a0) + a1) + (2 : Int32)) fun v128 => ((¬ v128 = (108 : Int32) → ((v128 = (110 : Int32) → wp_X9_writesBrace_L58 D P post o a0 a1 a2 (v125 - (65 : Int32)) v128 M) ∧ (¬ v128 = (110 : Int32) → ((¬ v128 = (112 : Int32) → ((¬ v128 = (103 : Int32) → wp_X9_writesBrace_L74 D P post o a0 a1 a2 (v125 - (65 : Int32)) v128 (0 : Int32) M) ∧ (v128 = (103 : Int32) → wp_X9_writesBrace_L74 D P post o a0 a1 a2 (v125 - (65 : Int32)) v128 (2 : Int32) M))) ∧ (v128 = (112 : Int32) → wp_X9_writesBrace_L58 D P post o a0 a1 a2 (v125 - (65 : Int32)) v128 M))))) ∧ (v128 = (108 : Int32) → wp_X9_writesBrace_L74 D P post o a0 a1 a2 (v125 - (65 : Int32)) v128 (3 : Int32) M))))))))
set_option maxHeartbeats 4000000 in
set_option maxRecDepth 100000 in
theorem w_X9_writesBrace {l : Launch} {D : zD} {post : Unit → zM → Prop} {P : (Unit → zM → Prop) → Nat → Int32 → Int32 → Int32 → zM → Prop} {d : Nat} (hlt : l.stackTraces = false) (hP : ∀ (post : Unit → zM → Prop) (o : Nat) (a0 : Int32) (a1 : Int32) (a2 : Int32) (M : zM), P post o a0 a1 a2 M → zMet l D yX9_writesMessage (ws_ yX9_writesMessage cX9_writesMessage 6 (none)) (rm_X9_writesMessage d) 0 0 [.ref o, .int a0, .int a1, .int a2] M zU post (fun _ _ => False)) {o : Nat} {a0 : Int32} {a1 : Int32} {a2 : Int32} {M : zM} (hw : wp_X9_writesBrace D P post o a0 a1 a2 M) : zMet l D yX9_writesBrace (ws_ yX9_writesBrace cX9_writesBrace 10 (none)) (rm_X9_writesBrace d) 0 0 [.ref o, .int a0, .int a1, .int a2] M zU post (fun _ _ => False) := by
  unfold wp_X9_writesBrace at hw
  have hlv : lv_args 0 [.ref o, .int a0, .int a1, .int a2] = [(0, .ref o), (1, .int a0), (2, .int a1), (3, .int a2)] := (zargs1 rfl (zargs1 rfl (zargs1 rfl (zargs1 rfl rfl))))
  refine z_ofW hlt (by decide) (Nat.le_trans (zsl1 rfl (zsl1 rfl (zsl1 rfl (zsl1 rfl (Nat.le_refl 0 : (lg_sl []).length ≤ 0))))) (Nat.le_of_ble_eq_true rfl)) hlv ?_
  intro p e s m args below meth c ls hG hZ hl
  have hC := hG.1
  have hx := hC.x
  have hb := hC.b
  have hown := hC.o
  have hts := hC.ts
  have hlt := hG.2.2.2.2.2
  obtain ⟨cells, hce⟩ : ∃ z : Nat, z = 0 := ⟨0, rfl⟩
  obtain ⟨slots, hsl⟩ : ∃ z : Nat, z = 0 := ⟨0, rfl⟩
  refine W.cs (cells' := cells) (slots' := slots) hce.symm hsl.symm ?_
  have hk : cells ≤ 0 := Nat.le_of_eq hce
  have hn : slots ≤ 0 := Nat.le_of_eq hsl
  clear hce hsl
  refine lv_aload_n hx hb dX9_writesBrace_0 rfl (lv_at hl 0 rfl) ?_
  obtain ⟨fs0, g133, hM0, hx0, hw⟩ := hw
  refine z_get hC hZ hM0 zc8 10 (by decide) q1730 (fun _ h9 => h9) hx0 dX9_writesBrace_1 ?_
  refine lv_bipush (v := 120) hx hb dX9_writesBrace_4 (by decide) ?_
  refine lv_iload_n hx hb dX9_writesBrace_6 rfl (lv_at hl 1 rfl) ?_
  refine lv_imul hx hb dX9_writesBrace_7 ?_
  refine lv_iload_n hx hb dX9_writesBrace_8 rfl (lv_at hl 2 rfl) ?_
  refine lv_iadd hx hb dX9_writesBrace_9 ?_
  refine lv_iconst (v := 1) hx hb dX9_writesBrace_10 (by decide) ?_
  refine lv_iadd hx hb dX9_writesBrace_11 ?_
  obtain ⟨b134, hr0, hw⟩ := hw
  subst hr0
  obtain ⟨n0, f0, hM0, hi0, hw⟩ := hw
  refine z_iald hC hZ hM0 hi0 dX9_writesBrace_12 ?_
  generalize f0 _ = v135 at hw ⊢
  refine lv_bipush (v := 65) hx hb dX9_writesBrace_13 (by decide) ?_
  refine lv_isub hx hb dX9_writesBrace_15 ?_
  refine lv_istore (i := 4) (lv' := [(4, .int (v135 - (65 : Int32))), (0, .ref o), (1, .int a0), (2, .int a1), (3, .int a2)]) hx hb dX9_writesBrace_16 hl (by decide) rfl (fun ls hl1 => ?_)
  replace hl := hl1
  clear hl1
  refine lv_aload_n hx hb dX9_writesBrace_18 rfl (lv_at hl 1 rfl) ?_
  obtain ⟨fs0, g136, hM0, hx0, hw⟩ := hw
  refine z_get hC hZ hM0 zc8 10 (by decide) q1730 (fun _ h9 => h9) hx0 dX9_writesBrace_19 ?_
  refine lv_bipush (v := 120) hx hb dX9_writesBrace_22 (by decide) ?_
  refine lv_iload_n hx hb dX9_writesBrace_24 rfl (lv_at hl 2 rfl) ?_
  refine lv_imul hx hb dX9_writesBrace_25 ?_
  refine lv_iload_n hx hb dX9_writesBrace_26 rfl (lv_at hl 3 rfl) ?_
  refine lv_iadd hx hb dX9_writesBrace_27 ?_
  refine lv_iconst (v := 2) hx hb dX9_writesBrace_28 (by decide) ?_
  refine lv_iadd hx hb dX9_writesBrace_29 ?_
  obtain ⟨b137, hr0, hw⟩ := hw
  subst hr0
  obtain ⟨n0, f0, hM0, hi0, hw⟩ := hw
  refine z_iald hC hZ hM0 hi0 dX9_writesBrace_30 ?_
  generalize f0 _ = v138 at hw ⊢
  refine lv_istore (i := 5) (lv' := [(5, .int v138), (4, .int (v135 - (65 : Int32))), (0, .ref o), (1, .int a0), (2, .int a1), (3, .int a2)]) hx hb dX9_writesBrace_31 hl (by decide) rfl (fun ls hl1 => ?_)
  replace hl := hl1
  clear hl1
  refine lv_iload hx hb dX9_writesBrace_33 (lv_at hl 0 rfl) ?_
  refine lv_bipush (v := 108) hx hb dX9_writesBrace_35 (by decide) ?_
  refine lv_icmp_ne (tgt := 44) hx hb dX9_writesBrace_37 (by decide) (fun c142 => ?_) (fun c142 => ?_)
  · replace hw := hw.1 c142
    refine lv_iload hx hb dX9_writesBrace_44 (lv_at hl 0 rfl) ?_
    refine lv_bipush (v := 110) hx hb dX9_writesBrace_46 (by decide) ?_
    refine lv_icmp_eq (tgt := 58) hx hb dX9_writesBrace_48 (by decide) (fun c141 => ?_) (fun c141 => ?_)
    · replace hw := hw.1 c141
      exact wk_X9_writesBrace_L58 hG hP _ _ _ _ _ _ hk hn hZ (lv_sub hl [2, 3, 4, 5, 1, 0] rfl) hw
    · replace hw := hw.2 c141
      refine lv_iload hx hb dX9_writesBrace_51 (lv_at hl 0 rfl) ?_
      refine lv_bipush (v := 112) hx hb dX9_writesBrace_53 (by decide) ?_
      refine lv_icmp_ne (tgt := 62) hx hb dX9_writesBrace_55 (by decide) (fun c140 => ?_) (fun c140 => ?_)
      · replace hw := hw.1 c140
        refine lv_iload hx hb dX9_writesBrace_62 (lv_at hl 0 rfl) ?_
        refine lv_bipush (v := 103) hx hb dX9_writesBrace_64 (by decide) ?_
        refine lv_icmp_ne (tgt := 73) hx hb dX9_writesBrace_66 (by decide) (fun c139 => ?_) (fun c139 => ?_)
        · replace hw := hw.1 c139
          refine lv_iconst (v := 0) hx hb dX9_writesBrace_73 (by decide) ?_
          exact wk_X9_writesBrace_L74 hG hP _ _ _ _ _ _ _ hk hn hZ (lv_sub hl [2, 3, 4, 5, 1, 0] rfl) hw
        · replace hw := hw.2 c139
          refine lv_iconst (v := 2) hx hb dX9_writesBrace_69 (by decide) ?_
          refine lv_goto (tgt := 74) hx hb dX9_writesBrace_70 (by decide) ?_
          exact wk_X9_writesBrace_L74 hG hP _ _ _ _ _ _ _ hk hn hZ (lv_sub hl [2, 3, 4, 5, 1, 0] rfl) hw
      · replace hw := hw.2 c140
        exact wk_X9_writesBrace_L58 hG hP _ _ _ _ _ _ hk hn hZ (lv_sub hl [2, 3, 4, 5, 1, 0] rfl) hw
  · replace hw := hw.2 c142
    refine lv_iconst (v := 3) hx hb dX9_writesBrace_40 (by decide) ?_
    refine lv_goto (tgt := 74) hx hb dX9_writesBrace_41 (by decide) ?_
    exact wk_X9_writesBrace_L74 hG hP _ _ _ _ _ _ _ hk hn hZ (lv_sub hl [2, 3, 4, 5, 1, 0] rfl) hw
def wp_X9_writesMessage_L150 (D : zD) (P : (Unit → zM → Prop) → Nat → Int32 → Int32 → Int32 → zM → Prop) (post : Unit → zM → Prop) (o : Nat) (M : zM) : Prop :=
    post () M
set_option maxHeartbeats 4000000 in
set_option maxRecDepth 100000 in
theorem wk_X9_writesMessage_L150 {p : Program} {l : Launch} {e : Env} {s : State} {m : MethodId} {args : Array Value} {below : List Frame} {meth : Method} {c : Code} {D : zD} {P : (Unit → zM → Prop) → Nat → Int32 → Int32 → Int32 → zM → Prop} {post : Unit → zM → Prop} {d : Nat} {o : Nat} (hG : zGx p l s m args meth c cX9_writesMessage 6 "PluralBranchesModel" D (none) "writesMessage" []) (hP : ∀ (post : Unit → zM → Prop) (o : Nat) (a0 : Int32) (a1 : Int32) (a2 : Int32) (M : zM), P post o a0 a1 a2 M → zMet l D yX9_writesMessage (ws_ yX9_writesMessage cX9_writesMessage 6 (none)) (rm_X9_writesMessage d) 0 0 [.ref o, .int a0, .int a1, .int a2] M zU post (fun _ _ => False)) : ∀ {H : Heap} {locs : List Loc} {cells slots : Nat} {ls : Array Slot} (M : zM), cells ≤ 0 → slots ≤ 0 → zS D M H locs → lv_has ls 6 [] → wp_X9_writesMessage_L150 D P post o M → W p l e (rm_X9_writesMessage (d + 1)) s m args below meth c H locs cells slots (vx_MQ below (zQ D zU post) (zX D (fun _ _ => False)) args s 0 0 (zA D)) (F0 m 150 ls []) := by
  have hC := hG.1
  have hx := hC.x
  have hb := hC.b
  have hown := hC.o
  have hts := hC.ts
  have hlt := hG.2.2.2.2.2
  intro H locs cells slots ls M hk hn hZ hl hw
  exact z_vret hG hZ hk hn hw dX9_writesMessage_150
def wp_X9_writesMessage_L144 (D : zD) (P : (Unit → zM → Prop) → Nat → Int32 → Int32 → Int32 → zM → Prop) (post : Unit → zM → Prop) (o : Nat) (k3 : Int32 → Int32 → Int32 → zM → Prop) (x1 : Int32) (x3 : Int32) (x4 : Int32) (y0 : Option Nat) (y1 : Int32) (M : zM) : Prop :=
    ((zd y0 fun b1 => zp D M b1 8 50 (.int y1) fun M => k3 x1 x3 x4 M))
set_option maxHeartbeats 4000000 in
set_option maxRecDepth 100000 in
theorem wk_X9_writesMessage_L144 {p : Program} {l : Launch} {e : Env} {s : State} {m : MethodId} {args : Array Value} {below : List Frame} {meth : Method} {c : Code} {D : zD} {P : (Unit → zM → Prop) → Nat → Int32 → Int32 → Int32 → zM → Prop} {post : Unit → zM → Prop} {d : Nat} {o : Nat} (hG : zGx p l s m args meth c cX9_writesMessage 6 "PluralBranchesModel" D (none) "writesMessage" []) (hP : ∀ (post : Unit → zM → Prop) (o : Nat) (a0 : Int32) (a1 : Int32) (a2 : Int32) (M : zM), P post o a0 a1 a2 M → zMet l D yX9_writesMessage (ws_ yX9_writesMessage cX9_writesMessage 6 (none)) (rm_X9_writesMessage d) 0 0 [.ref o, .int a0, .int a1, .int a2] M zU post (fun _ _ => False)) (k3 : Int32 → Int32 → Int32 → zM → Prop) (hk3 : ∀ {H : Heap} {locs : List Loc} {cells slots : Nat} {ls : Array Slot} (x1 : Int32) (x3 : Int32) (x4 : Int32) (M : zM), cells ≤ 0 → slots ≤ 0 → zS D M H locs → lv_has ls 6 [(0, .ref o), (1, .int x1), (3, .int x3), (4, .int x4)] → k3 x1 x3 x4 M → W p l e (rm_X9_writesMessage (d + 1)) s m args below meth c H locs cells slots (vx_MQ below (zQ D zU post) (zX D (fun _ _ => False)) args s 0 0 (zA D)) (F0 m 3 ls [])) : ∀ {H : Heap} {locs : List Loc} {cells slots : Nat} {ls : Array Slot} (x1 : Int32) (x3 : Int32) (x4 : Int32) (y0 : Option Nat) (y1 : Int32) (M : zM), cells ≤ 0 → slots ≤ 0 → zS D M H locs → lv_has ls 6 [(0, .ref o), (1, .int x1), (3, .int x3), (4, .int x4)] → wp_X9_writesMessage_L144 D P post o k3 x1 x3 x4 y0 y1 M → W p l e (rm_X9_writesMessage (d + 1)) s m args below meth c H locs cells slots (vx_MQ below (zQ D zU post) (zX D (fun _ _ => False)) args s 0 0 (zA D)) (F0 m 144 ls [.int y1, va_rf y0]) := by
  have hC := hG.1
  have hx := hC.x
  have hb := hC.b
  have hown := hC.o
  have hts := hC.ts
  have hlt := hG.2.2.2.2.2
  intro H locs cells slots ls x1 x3 x4 y0 y1 M hk hn hZ hl hw
  obtain ⟨b3, hr0, hw⟩ := hw
  subst hr0
  obtain ⟨fs0, hM0, hb0, hk0, hw⟩ := hw
  refine z_put hC hZ hM0 hb0 zc8 50 (by decide) q1770 (fun _ h9 => h9) (by decide) rfl rfl hk0 dX9_writesMessage_144 (fun H locs hZ => ?_)
  generalize zu M _ _ = M at hw hZ
  refine lv_goto (tgt := 3) hx hb dX9_writesMessage_147 (by decide) ?_
  exact hk3 _ _ _ _ hk hn hZ (lv_sub hl [0, 1, 2, 3] rfl) hw
def wp_X9_writesMessage_L140 (D : zD) (P : (Unit → zM → Prop) → Nat → Int32 → Int32 → Int32 → zM → Prop) (post : Unit → zM → Prop) (o : Nat) (k3 : Int32 → Int32 → Int32 → zM → Prop) (x1 : Int32) (x3 : Int32) (x4 : Int32) (y0 : Option Nat) (M : zM) : Prop :=
    (zgI M o 8 50 fun g5 => wp_X9_writesMessage_L144 D P post o k3 x1 x3 x4 y0 g5 M)
set_option maxHeartbeats 4000000 in
set_option maxRecDepth 100000 in
theorem wk_X9_writesMessage_L140 {p : Program} {l : Launch} {e : Env} {s : State} {m : MethodId} {args : Array Value} {below : List Frame} {meth : Method} {c : Code} {D : zD} {P : (Unit → zM → Prop) → Nat → Int32 → Int32 → Int32 → zM → Prop} {post : Unit → zM → Prop} {d : Nat} {o : Nat} (hG : zGx p l s m args meth c cX9_writesMessage 6 "PluralBranchesModel" D (none) "writesMessage" []) (hP : ∀ (post : Unit → zM → Prop) (o : Nat) (a0 : Int32) (a1 : Int32) (a2 : Int32) (M : zM), P post o a0 a1 a2 M → zMet l D yX9_writesMessage (ws_ yX9_writesMessage cX9_writesMessage 6 (none)) (rm_X9_writesMessage d) 0 0 [.ref o, .int a0, .int a1, .int a2] M zU post (fun _ _ => False)) (k3 : Int32 → Int32 → Int32 → zM → Prop) (hk3 : ∀ {H : Heap} {locs : List Loc} {cells slots : Nat} {ls : Array Slot} (x1 : Int32) (x3 : Int32) (x4 : Int32) (M : zM), cells ≤ 0 → slots ≤ 0 → zS D M H locs → lv_has ls 6 [(0, .ref o), (1, .int x1), (3, .int x3), (4, .int x4)] → k3 x1 x3 x4 M → W p l e (rm_X9_writesMessage (d + 1)) s m args below meth c H locs cells slots (vx_MQ below (zQ D zU post) (zX D (fun _ _ => False)) args s 0 0 (zA D)) (F0 m 3 ls [])) : ∀ {H : Heap} {locs : List Loc} {cells slots : Nat} {ls : Array Slot} (x1 : Int32) (x3 : Int32) (x4 : Int32) (y0 : Option Nat) (M : zM), cells ≤ 0 → slots ≤ 0 → zS D M H locs → lv_has ls 6 [(0, .ref o), (1, .int x1), (3, .int x3), (4, .int x4)] → wp_X9_writesMessage_L140 D P post o k3 x1 x3 x4 y0 M → W p l e (rm_X9_writesMessage (d + 1)) s m args below meth c H locs cells slots (vx_MQ below (zQ D zU post) (zX D (fun _ _ => False)) args s 0 0 (zA D)) (F0 m 140 ls [va_rf y0]) := by
  have hC := hG.1
  have hx := hC.x
  have hb := hC.b
  have hown := hC.o
  have hts := hC.ts
  have hlt := hG.2.2.2.2.2
  intro H locs cells slots ls x1 x3 x4 y0 M hk hn hZ hl hw
  refine lv_aload_n hx hb dX9_writesMessage_140 rfl (lv_at hl 0 rfl) ?_
  obtain ⟨fs0, g6, hM0, hx0, hw⟩ := hw
  refine z_get hC hZ hM0 zc8 50 (by decide) q1770 (fun _ h9 => h9) hx0 dX9_writesMessage_141 ?_
  exact wk_X9_writesMessage_L144 hG hP k3 hk3 _ _ _ _ _ _ hk hn hZ (lv_sub hl [0, 1, 2, 3] rfl) hw
def wp_X9_writesMessage_L117 (D : zD) (P : (Unit → zM → Prop) → Nat → Int32 → Int32 → Int32 → zM → Prop) (post : Unit → zM → Prop) (o : Nat) (k3 : Int32 → Int32 → Int32 → zM → Prop) (x1 : Int32) (x3 : Int32) (x4 : Int32) (M : zM) : Prop :=
    (zgI M o 8 50 fun g7 => ((¬ g7 = 0 → wp_X9_writesMessage_L140 D P post o k3 x1 x3 x4 (some o) M) ∧ (g7 = 0 → (zgI M o 8 48 fun g8 => ((g8 ≤ (240 : Int32) → wp_X9_writesMessage_L140 D P post o k3 x1 x3 x4 (some o) M) ∧ (¬ g8 ≤ (240 : Int32) → wp_X9_writesMessage_L144 D P post o k3 x1 x3 x4 (some o) (-5 : Int32) M))))))
set_option maxHeartbeats 4000000 in
set_option maxRecDepth 100000 in
theorem wk_X9_writesMessage_L117 {p : Program} {l : Launch} {e : Env} {s : State} {m : MethodId} {args : Array Value} {below : List Frame} {meth : Method} {c : Code} {D : zD} {P : (Unit → zM → Prop) → Nat → Int32 → Int32 → Int32 → zM → Prop} {post : Unit → zM → Prop} {d : Nat} {o : Nat} (hG : zGx p l s m args meth c cX9_writesMessage 6 "PluralBranchesModel" D (none) "writesMessage" []) (hP : ∀ (post : Unit → zM → Prop) (o : Nat) (a0 : Int32) (a1 : Int32) (a2 : Int32) (M : zM), P post o a0 a1 a2 M → zMet l D yX9_writesMessage (ws_ yX9_writesMessage cX9_writesMessage 6 (none)) (rm_X9_writesMessage d) 0 0 [.ref o, .int a0, .int a1, .int a2] M zU post (fun _ _ => False)) (k3 : Int32 → Int32 → Int32 → zM → Prop) (hk3 : ∀ {H : Heap} {locs : List Loc} {cells slots : Nat} {ls : Array Slot} (x1 : Int32) (x3 : Int32) (x4 : Int32) (M : zM), cells ≤ 0 → slots ≤ 0 → zS D M H locs → lv_has ls 6 [(0, .ref o), (1, .int x1), (3, .int x3), (4, .int x4)] → k3 x1 x3 x4 M → W p l e (rm_X9_writesMessage (d + 1)) s m args below meth c H locs cells slots (vx_MQ below (zQ D zU post) (zX D (fun _ _ => False)) args s 0 0 (zA D)) (F0 m 3 ls [])) : ∀ {H : Heap} {locs : List Loc} {cells slots : Nat} {ls : Array Slot} (x1 : Int32) (x3 : Int32) (x4 : Int32) (M : zM), cells ≤ 0 → slots ≤ 0 → zS D M H locs → lv_has ls 6 [(0, .ref o), (1, .int x1), (3, .int x3), (4, .int x4)] → wp_X9_writesMessage_L117 D P post o k3 x1 x3 x4 M → W p l e (rm_X9_writesMessage (d + 1)) s m args below meth c H locs cells slots (vx_MQ below (zQ D zU post) (zX D (fun _ _ => False)) args s 0 0 (zA D)) (F0 m 117 ls []) := by
  have hC := hG.1
  have hx := hC.x
  have hb := hC.b
  have hown := hC.o
  have hts := hC.ts
  have hlt := hG.2.2.2.2.2
  intro H locs cells slots ls x1 x3 x4 M hk hn hZ hl hw
  refine lv_aload_n hx hb dX9_writesMessage_117 rfl (lv_at hl 0 rfl) ?_
  refine lv_aload_n hx hb dX9_writesMessage_118 rfl (lv_at hl 0 rfl) ?_
  obtain ⟨fs0, g11, hM0, hx0, hw⟩ := hw
  refine z_get hC hZ hM0 zc8 50 (by decide) q1770 (fun _ h9 => h9) hx0 dX9_writesMessage_119 ?_
  refine lv_if_ne (tgt := 140) hx hb dX9_writesMessage_122 (by decide) (fun c14 => ?_) (fun c14 => ?_)
  · replace hw := hw.1 c14
    exact wk_X9_writesMessage_L140 hG hP k3 hk3 _ _ _ _ _ hk hn hZ (lv_sub hl [0, 1, 2, 3] rfl) hw
  · replace hw := hw.2 c14
    refine lv_aload_n hx hb dX9_writesMessage_125 rfl (lv_at hl 0 rfl) ?_
    obtain ⟨fs0, g12, hM0, hx0, hw⟩ := hw
    refine z_get hC hZ hM0 zc8 48 (by decide) q1768 (fun _ h9 => h9) hx0 dX9_writesMessage_126 ?_
    refine lv_sipush (v := 240) hx hb dX9_writesMessage_129 (by decide) ?_
    refine lv_icmp_le (tgt := 140) hx hb dX9_writesMessage_132 (by decide) (fun c13 => ?_) (fun c13 => ?_)
    · replace hw := hw.1 c13
      exact wk_X9_writesMessage_L140 hG hP k3 hk3 _ _ _ _ _ hk hn hZ (lv_sub hl [0, 1, 2, 3] rfl) hw
    · replace hw := hw.2 c13
      refine lv_bipush (v := (-5)) hx hb dX9_writesMessage_135 (by decide) ?_
      refine lv_goto (tgt := 144) hx hb dX9_writesMessage_137 (by decide) ?_
      exact wk_X9_writesMessage_L144 hG hP k3 hk3 _ _ _ _ _ _ hk hn hZ (lv_sub hl [0, 1, 2, 3] rfl) hw
def wp_X9_writesMessage_L3 (D : zD) (P : (Unit → zM → Prop) → Nat → Int32 → Int32 → Int32 → zM → Prop) (post : Unit → zM → Prop) (o : Nat) : Nat → Int32 → Int32 → Int32 → zM → Prop
  | 0 => fun _ _ _ _ => False
  | f + 1 => fun x1 x3 x4 M =>
    (zgI M o 8 50 fun g15 => ((¬ g15 = 0 → wp_X9_writesMessage_L150 D P post o M) ∧ (g15 = 0 → (zgR M o 8 9 fun g16 => ((zd g16 fun b17 => zaI M b17 0 x1 fun v18 => ((v18 ≤ x4 → wp_X9_writesMessage_L150 D P post o M) ∧ (¬ v18 ≤ x4 → (zgR M o 8 10 fun g19 => ((zd g19 fun b20 => zaI M b20 0 (((120 : Int32) * x1) + x4) fun v21 => ((v21 = (41 : Int32) → wp_X9_writesMessage_L150 D P post o M) ∧ (¬ v21 = (41 : Int32) → (zgR M o 8 10 fun g22 => ((zd g22 fun b23 => zaI M b23 0 (((120 : Int32) * x1) + x4) fun v24 => ((¬ v24 = (123 : Int32) → ((¬ v24 = (35 : Int32) → ((zis M o [8] ∧ wp_X9_writes D (fun _ M => wp_X9_writesMessage_L117 D P post o (wp_X9_writesMessage_L3 D P post o f) x1 x3 (x4 + 1) M) o v24 M))) ∧ (v24 = (35 : Int32) → (zgR M o 8 42 fun g28 => ((zd g28 fun b29 => zaI M b29 0 x3 fun v30 => (zgR M o 8 43 fun g31 => ((zd g31 fun b32 => zaI M b32 0 x3 fun v33 => ((zis M o [8] ∧ wp_X9_writesDecimal D (fun _ M => wp_X9_writesMessage_L117 D P post o (wp_X9_writesMessage_L3 D P post o f) x1 x3 (x4 + 1) M) o v30 v33 M))))))))))) ∧ (v24 = (123 : Int32) → ((zis M o [8] ∧ wp_X9_writesBrace D P (fun _ M => ((zis M o [8] ∧ wp_X9_behindBrace D (fun r41 M => wp_X9_writesMessage_L117 D P post o (wp_X9_writesMessage_L3 D P post o f) x1 x3 r41 M) o x1 x4 M))) o x1 x4 x3 M))))))))))))))))))))
set_option maxHeartbeats 4000000 in
set_option maxRecDepth 100000 in
theorem wk_X9_writesMessage_L3 {p : Program} {l : Launch} {e : Env} {s : State} {m : MethodId} {args : Array Value} {below : List Frame} {meth : Method} {c : Code} {D : zD} {P : (Unit → zM → Prop) → Nat → Int32 → Int32 → Int32 → zM → Prop} {post : Unit → zM → Prop} {d : Nat} {o : Nat} (hG : zGx p l s m args meth c cX9_writesMessage 6 "PluralBranchesModel" D (none) "writesMessage" []) (hP : ∀ (post : Unit → zM → Prop) (o : Nat) (a0 : Int32) (a1 : Int32) (a2 : Int32) (M : zM), P post o a0 a1 a2 M → zMet l D yX9_writesMessage (ws_ yX9_writesMessage cX9_writesMessage 6 (none)) (rm_X9_writesMessage d) 0 0 [.ref o, .int a0, .int a1, .int a2] M zU post (fun _ _ => False)) : ∀ (f : Nat), ∀ {H : Heap} {locs : List Loc} {cells slots : Nat} {ls : Array Slot} (x1 : Int32) (x3 : Int32) (x4 : Int32) (M : zM), cells ≤ 0 → slots ≤ 0 → zS D M H locs → lv_has ls 6 [(0, .ref o), (1, .int x1), (3, .int x3), (4, .int x4)] → wp_X9_writesMessage_L3 D P post o f x1 x3 x4 M → W p l e (rm_X9_writesMessage (d + 1)) s m args below meth c H locs cells slots (vx_MQ below (zQ D zU post) (zX D (fun _ _ => False)) args s 0 0 (zA D)) (F0 m 3 ls []) := by
  have hC := hG.1
  have hx := hC.x
  have hb := hC.b
  have hown := hC.o
  have hts := hC.ts
  have hlt := hG.2.2.2.2.2
  intro f
  induction f with
  | zero =>
    intro H locs cells slots ls x1 x3 x4 M hk hn hZ hl hw
    exact absurd hw (fun h => h)
  | succ f ih =>
    intro H locs cells slots ls x1 x3 x4 M hk hn hZ hl hw
    refine lv_aload_n hx hb dX9_writesMessage_3 rfl (lv_at hl 0 rfl) ?_
    obtain ⟨fs0, g48, hM0, hx0, hw⟩ := hw
    refine z_get hC hZ hM0 zc8 50 (by decide) q1770 (fun _ h9 => h9) hx0 dX9_writesMessage_4 ?_
    refine lv_if_ne (tgt := 150) hx hb dX9_writesMessage_7 (by decide) (fun c80 => ?_) (fun c80 => ?_)
    · replace hw := hw.1 c80
      exact wk_X9_writesMessage_L150 hG hP _ hk hn hZ (lv_sub hl [] rfl) hw
    · replace hw := hw.2 c80
      refine lv_iload hx hb dX9_writesMessage_10 (lv_at hl 3 rfl) ?_
      refine lv_aload_n hx hb dX9_writesMessage_12 rfl (lv_at hl 0 rfl) ?_
      obtain ⟨fs0, g49, hM0, hx0, hw⟩ := hw
      refine z_get hC hZ hM0 zc8 9 (by decide) q1729 (fun _ h9 => h9) hx0 dX9_writesMessage_13 ?_
      refine lv_iload_n hx hb dX9_writesMessage_16 rfl (lv_at hl 1 rfl) ?_
      obtain ⟨b50, hr0, hw⟩ := hw
      subst hr0
      obtain ⟨n0, f0, hM0, hi0, hw⟩ := hw
      refine z_iald hC hZ hM0 hi0 dX9_writesMessage_17 ?_
      generalize f0 _ = v51 at hw ⊢
      refine lv_icmp_ge (tgt := 150) hx hb dX9_writesMessage_18 (by decide) (fun c79 => ?_) (fun c79 => ?_)
      · replace hw := hw.1 c79
        exact wk_X9_writesMessage_L150 hG hP _ hk hn hZ (lv_sub hl [] rfl) hw
      · replace hw := hw.2 c79
        refine lv_aload_n hx hb dX9_writesMessage_21 rfl (lv_at hl 0 rfl) ?_
        obtain ⟨fs0, g52, hM0, hx0, hw⟩ := hw
        refine z_get hC hZ hM0 zc8 10 (by decide) q1730 (fun _ h9 => h9) hx0 dX9_writesMessage_22 ?_
        refine lv_bipush (v := 120) hx hb dX9_writesMessage_25 (by decide) ?_
        refine lv_iload_n hx hb dX9_writesMessage_27 rfl (lv_at hl 1 rfl) ?_
        refine lv_imul hx hb dX9_writesMessage_28 ?_
        refine lv_iload hx hb dX9_writesMessage_29 (lv_at hl 3 rfl) ?_
        refine lv_iadd hx hb dX9_writesMessage_31 ?_
        obtain ⟨b53, hr0, hw⟩ := hw
        subst hr0
        obtain ⟨n0, f0, hM0, hi0, hw⟩ := hw
        refine z_iald hC hZ hM0 hi0 dX9_writesMessage_32 ?_
        generalize f0 _ = v54 at hw ⊢
        refine lv_bipush (v := 41) hx hb dX9_writesMessage_33 (by decide) ?_
        refine lv_icmp_eq (tgt := 150) hx hb dX9_writesMessage_35 (by decide) (fun c78 => ?_) (fun c78 => ?_)
        · replace hw := hw.1 c78
          exact wk_X9_writesMessage_L150 hG hP _ hk hn hZ (lv_sub hl [] rfl) hw
        · replace hw := hw.2 c78
          refine lv_aload_n hx hb dX9_writesMessage_38 rfl (lv_at hl 0 rfl) ?_
          obtain ⟨fs0, g55, hM0, hx0, hw⟩ := hw
          refine z_get hC hZ hM0 zc8 10 (by decide) q1730 (fun _ h9 => h9) hx0 dX9_writesMessage_39 ?_
          refine lv_bipush (v := 120) hx hb dX9_writesMessage_42 (by decide) ?_
          refine lv_iload_n hx hb dX9_writesMessage_44 rfl (lv_at hl 1 rfl) ?_
          refine lv_imul hx hb dX9_writesMessage_45 ?_
          refine lv_iload hx hb dX9_writesMessage_46 (lv_at hl 3 rfl) ?_
          refine lv_iadd hx hb dX9_writesMessage_48 ?_
          obtain ⟨b56, hr0, hw⟩ := hw
          subst hr0
          obtain ⟨n0, f0, hM0, hi0, hw⟩ := hw
          refine z_iald hC hZ hM0 hi0 dX9_writesMessage_49 ?_
          generalize f0 _ = v57 at hw ⊢
          refine lv_istore (i := 5) (lv' := [(5, .int v57), (0, .ref o), (1, .int x1), (3, .int x3), (4, .int x4)]) hx hb dX9_writesMessage_50 hl (by decide) rfl (fun ls hl1 => ?_)
          replace hl := hl1
          clear hl1
          refine lv_iload hx hb dX9_writesMessage_52 (lv_at hl 0 rfl) ?_
          refine lv_bipush (v := 123) hx hb dX9_writesMessage_54 (by decide) ?_
          refine lv_icmp_ne (tgt := 79) hx hb dX9_writesMessage_56 (by decide) (fun c77 => ?_) (fun c77 => ?_)
          · replace hw := hw.1 c77
            refine lv_iload hx hb dX9_writesMessage_79 (lv_at hl 0 rfl) ?_
            refine lv_bipush (v := 35) hx hb dX9_writesMessage_81 (by decide) ?_
            refine lv_icmp_ne (tgt := 108) hx hb dX9_writesMessage_83 (by decide) (fun c70 => ?_) (fun c70 => ?_)
            · replace hw := hw.1 c70
              refine lv_aload_n hx hb dX9_writesMessage_108 rfl (lv_at hl 1 rfl) ?_
              refine lv_iload hx hb dX9_writesMessage_109 (lv_at hl 0 rfl) ?_
              obtain ⟨⟨ci0, fs0, hci0, hM0⟩, hw⟩ := hw
              obtain rfl : ci0 = 8 := List.mem_singleton.mp hci0
              refine z_callU hZ (vx_runV (As := [.int v57]) (rest := []) hC.fix (w_X9_writes hlt hw) (cwV 1 hts (lw_V q2137 q2139 qs53 q83 q2140) rfl rfl rfl ⟨rfl, dd_X9_writes⟩ ⟨(show 1 + 1 ≤ 4 + 5 * (d + 1) by omega), (show 8 + (2 + 11) + (64) ≤ 135 + 121 * (d + 1) by omega)⟩) (z_preV hC hZ hM0 zc8) rfl rfl hl.1 rfl (lv_room (Nat.zero_le _)) dX9_writesMessage_111 ⟨hk, hn⟩) (fun r58 M H locs hw1 hZ => ?_) (fun q M H locs ci fs E T9 N9 hw hZ hc1 hM1 hb1 => False.elim hw)
              replace hw := hw1
              clear hw1
              refine W.cs (cells' := cells) (slots' := slots) rfl rfl ?_
              refine lv_iinc (v := (x4 + 1)) (lv' := [(4, .int (x4 + 1)), (5, .int v57), (0, .ref o), (1, .int x1), (3, .int x3)]) hx hb dX9_writesMessage_114 hl (k := 4) rfl rfl (by decide) rfl (fun ls hl1 => ?_)
              replace hl := hl1
              clear hl1
              exact wk_X9_writesMessage_L117 hG hP _ (fun {_ _ _ _ _} _z0 _z1 _z2 _z3 h1 h2 h3 h4 h5 => ih _z0 _z1 _z2 _z3 h1 h2 h3 h4 h5) _ _ _ _ hk hn hZ (lv_sub hl [2, 3, 4, 0] rfl) hw
            · replace hw := hw.2 c70
              refine lv_aload_n hx hb dX9_writesMessage_86 rfl (lv_at hl 1 rfl) ?_
              refine lv_aload_n hx hb dX9_writesMessage_87 rfl (lv_at hl 1 rfl) ?_
              obtain ⟨fs0, g61, hM0, hx0, hw⟩ := hw
              refine z_get hC hZ hM0 zc8 42 (by decide) q1762 (fun _ h9 => h9) hx0 dX9_writesMessage_88 ?_
              refine lv_iload_n hx hb dX9_writesMessage_91 rfl (lv_at hl 3 rfl) ?_
              obtain ⟨b62, hr0, hw⟩ := hw
              subst hr0
              obtain ⟨n0, f0, hM0, hi0, hw⟩ := hw
              refine z_iald hC hZ hM0 hi0 dX9_writesMessage_92 ?_
              generalize f0 _ = v63 at hw ⊢
              refine lv_aload_n hx hb dX9_writesMessage_93 rfl (lv_at hl 1 rfl) ?_
              obtain ⟨fs0, g64, hM0, hx0, hw⟩ := hw
              refine z_get hC hZ hM0 zc8 43 (by decide) q1763 (fun _ h9 => h9) hx0 dX9_writesMessage_94 ?_
              refine lv_iload_n hx hb dX9_writesMessage_97 rfl (lv_at hl 3 rfl) ?_
              obtain ⟨b65, hr0, hw⟩ := hw
              subst hr0
              obtain ⟨n0, f0, hM0, hi0, hw⟩ := hw
              refine z_iald hC hZ hM0 hi0 dX9_writesMessage_98 ?_
              generalize f0 _ = v66 at hw ⊢
              obtain ⟨⟨ci0, fs0, hci0, hM0⟩, hw⟩ := hw
              obtain rfl : ci0 = 8 := List.mem_singleton.mp hci0
              refine z_callU hZ (vx_runV (As := [.int v63, .int v66]) (rest := []) hC.fix (w_X9_writesDecimal hlt hw) (cwV 2 hts (lw_V q2133 q2135 qs52 q83 q2136) rfl rfl rfl ⟨rfl, dd_X9_writesDecimal⟩ ⟨(show 3 + 1 ≤ 4 + 5 * (d + 1) by omega), (show 8 + (5 + 11) + (111) ≤ 135 + 121 * (d + 1) by omega)⟩) (z_preV hC hZ hM0 zc8) rfl rfl hl.1 rfl (lv_room (Nat.zero_le _)) dX9_writesMessage_99 ⟨hk, hn⟩) (fun r67 M H locs hw1 hZ => ?_) (fun q M H locs ci fs E T9 N9 hw hZ hc1 hM1 hb1 => False.elim hw)
              replace hw := hw1
              clear hw1
              refine W.cs (cells' := cells) (slots' := slots) rfl rfl ?_
              refine lv_iinc (v := (x4 + 1)) (lv' := [(4, .int (x4 + 1)), (5, .int v57), (0, .ref o), (1, .int x1), (3, .int x3)]) hx hb dX9_writesMessage_102 hl (k := 4) rfl rfl (by decide) rfl (fun ls hl1 => ?_)
              replace hl := hl1
              clear hl1
              refine lv_goto (tgt := 117) hx hb dX9_writesMessage_105 (by decide) ?_
              exact wk_X9_writesMessage_L117 hG hP _ (fun {_ _ _ _ _} _z0 _z1 _z2 _z3 h1 h2 h3 h4 h5 => ih _z0 _z1 _z2 _z3 h1 h2 h3 h4 h5) _ _ _ _ hk hn hZ (lv_sub hl [2, 3, 4, 0] rfl) hw
          · replace hw := hw.2 c77
            refine lv_aload_n hx hb dX9_writesMessage_59 rfl (lv_at hl 1 rfl) ?_
            refine lv_iload_n hx hb dX9_writesMessage_60 rfl (lv_at hl 2 rfl) ?_
            refine lv_iload hx hb dX9_writesMessage_61 (lv_at hl 4 rfl) ?_
            refine lv_iload_n hx hb dX9_writesMessage_63 rfl (lv_at hl 3 rfl) ?_
            obtain ⟨⟨ci0, fs0, hci0, hM0⟩, hw⟩ := hw
            obtain rfl : ci0 = 8 := List.mem_singleton.mp hci0
            refine z_callU hZ (vx_runV (As := [.int x1, .int x4, .int x3]) (rest := []) hC.fix (w_X9_writesBrace hlt hP hw) (cwV 3 hts (lw_V q2125 q2127 qs50 q83 q2128) rfl rfl rfl ⟨rfl, dd_X9_writesBrace⟩ ⟨(show 8 + 5 * d + 1 ≤ 4 + 5 * (d + 1) by omega), (show 8 + (10 + 11) + (227 + 121 * d) ≤ 135 + 121 * (d + 1) by omega)⟩) (z_preV hC hZ hM0 zc8) rfl rfl hl.1 rfl (lv_room (Nat.zero_le _)) dX9_writesMessage_64 ⟨hk, hn⟩) (fun r71 M H locs hw1 hZ => ?_) (fun q M H locs ci fs E T9 N9 hw hZ hc1 hM1 hb1 => False.elim hw)
            replace hw := hw1
            clear hw1
            refine W.cs (cells' := cells) (slots' := slots) rfl rfl ?_
            refine lv_aload_n hx hb dX9_writesMessage_67 rfl (lv_at hl 1 rfl) ?_
            refine lv_iload_n hx hb dX9_writesMessage_68 rfl (lv_at hl 2 rfl) ?_
            refine lv_iload hx hb dX9_writesMessage_69 (lv_at hl 4 rfl) ?_
            obtain ⟨⟨ci0, fs0, hci0, hM0⟩, hw⟩ := hw
            obtain rfl : ci0 = 8 := List.mem_singleton.mp hci0
            refine z_callI hZ (vx_runV (As := [.int x1, .int x4]) (rest := []) hC.fix (w_X9_behindBrace hlt hw) (cwV 2 hts (lw_V q2194 q2196 qs63 q83 q2197) rfl rfl rfl ⟨rfl, dd_X9_behindBrace⟩ ⟨(show 1 + 1 ≤ 4 + 5 * (d + 1) by omega), (show 8 + (6 + 11) + (64) ≤ 135 + 121 * (d + 1) by omega)⟩) (z_preV hC hZ hM0 zc8) rfl rfl hl.1 rfl (lv_room (Nat.zero_le _)) dX9_writesMessage_71 ⟨hk, hn⟩) (fun r74 M H locs hw1 hZ => ?_) (fun q M H locs ci fs E T9 N9 hw hZ hc1 hM1 hb1 => False.elim hw)
            replace hw := hw1
            clear hw1
            refine W.cs (cells' := cells) (slots' := slots) rfl rfl ?_
            refine lv_istore (i := 4) (lv' := [(4, .int r74), (5, .int v57), (0, .ref o), (1, .int x1), (3, .int x3)]) hx hb dX9_writesMessage_74 hl (by decide) rfl (fun ls hl1 => ?_)
            replace hl := hl1
            clear hl1
            refine lv_goto (tgt := 117) hx hb dX9_writesMessage_76 (by decide) ?_
            exact wk_X9_writesMessage_L117 hG hP _ (fun {_ _ _ _ _} _z0 _z1 _z2 _z3 h1 h2 h3 h4 h5 => ih _z0 _z1 _z2 _z3 h1 h2 h3 h4 h5) _ _ _ _ hk hn hZ (lv_sub hl [2, 3, 4, 0] rfl) hw
def wp_X9_writesMessage (D : zD) : Nat → (Unit → zM → Prop) → Nat → Int32 → Int32 → Int32 → zM → Prop
  | 0 => fun _ _ _ _ _ _ => False
  | d + 1 => fun post o a0 a1 a2 M =>
    (fun P => (∃ f, wp_X9_writesMessage_L3 D P post o f a0 a2 a1 M)) (wp_X9_writesMessage D d)
set_option maxHeartbeats 4000000 in
set_option maxRecDepth 100000 in
theorem w_X9_writesMessage {l : Launch} {D : zD} (hlt : l.stackTraces = false) : ∀ (d : Nat) (post : Unit → zM → Prop) (o : Nat) (a0 : Int32) (a1 : Int32) (a2 : Int32) (M : zM), wp_X9_writesMessage D d post o a0 a1 a2 M → zMet l D yX9_writesMessage (ws_ yX9_writesMessage cX9_writesMessage 6 (none)) (rm_X9_writesMessage d) 0 0 [.ref o, .int a0, .int a1, .int a2] M zU post (fun _ _ => False) := by
  intro d
  induction d with
  | zero =>
    intro post o a0 a1 a2 M hw
    exact absurd hw (fun h => h)
  | succ d ih =>
    intro post o a0 a1 a2 M hw
    have hP := ih
    replace hw : (fun (P : (Unit → zM → Prop) → Nat → Int32 → Int32 → Int32 → zM → Prop) => (∃ f, wp_X9_writesMessage_L3 D P post o f a0 a2 a1 M)) (wp_X9_writesMessage D d) := hw
    generalize wp_X9_writesMessage D d = P at hw hP
    replace hw : (∃ f, wp_X9_writesMessage_L3 D P post o f a0 a2 a1 M) := hw
    have hlv : lv_args 0 [.ref o, .int a0, .int a1, .int a2] = [(0, .ref o), (1, .int a0), (2, .int a1), (3, .int a2)] := (zargs1 rfl (zargs1 rfl (zargs1 rfl (zargs1 rfl rfl))))
    refine z_ofW hlt (by decide) (Nat.le_trans (zsl1 rfl (zsl1 rfl (zsl1 rfl (zsl1 rfl (Nat.le_refl 0 : (lg_sl []).length ≤ 0))))) (Nat.le_of_ble_eq_true rfl)) hlv ?_
    intro p e s m args below meth c ls hG hZ hl
    have hC := hG.1
    have hx := hC.x
    have hb := hC.b
    have hown := hC.o
    have hts := hC.ts
    have hlt := hG.2.2.2.2.2
    obtain ⟨cells, hce⟩ : ∃ z : Nat, z = 0 := ⟨0, rfl⟩
    obtain ⟨slots, hsl⟩ : ∃ z : Nat, z = 0 := ⟨0, rfl⟩
    refine W.cs (cells' := cells) (slots' := slots) hce.symm hsl.symm ?_
    have hk : cells ≤ 0 := Nat.le_of_eq hce
    have hn : slots ≤ 0 := Nat.le_of_eq hsl
    clear hce hsl
    refine lv_iload_n hx hb dX9_writesMessage_0 rfl (lv_at hl 2 rfl) ?_
    refine lv_istore (i := 4) (lv' := [(4, .int a1), (0, .ref o), (1, .int a0), (2, .int a1), (3, .int a2)]) hx hb dX9_writesMessage_1 hl (by decide) rfl (fun ls hl1 => ?_)
    replace hl := hl1
    clear hl1
    obtain ⟨f1, hw⟩ := hw
    exact wk_X9_writesMessage_L3 hG hP f1 _ _ _ _ hk hn hZ (lv_sub hl [1, 2, 4, 0] rfl) hw
abbrev rm_X9_write : Room := { frames := 35, cells := 0, slots := 0, locals := 886 }
def wp_X9_write_L14 (D : zD) (post : Int32 → zM → Prop) (o : Nat) (M : zM) : Prop :=
    post (-1 : Int32) M
set_option maxHeartbeats 4000000 in
set_option maxRecDepth 100000 in
theorem wk_X9_write_L14 {p : Program} {l : Launch} {e : Env} {s : State} {m : MethodId} {args : Array Value} {below : List Frame} {meth : Method} {c : Code} {D : zD} {post : Int32 → zM → Prop} {o : Nat} (hG : zGx p l s m args meth c cX9_write 3 "PluralBranchesModel" D (some .int) "write" []) : ∀ {H : Heap} {locs : List Loc} {cells slots : Nat} {ls : Array Slot} (M : zM), cells ≤ 0 → slots ≤ 0 → zS D M H locs → lv_has ls 3 [] → wp_X9_write_L14 D post o M → W p l e rm_X9_write s m args below meth c H locs cells slots (vx_MQ below (zQ D zI post) (zX D (fun _ _ => False)) args s 0 0 (zA D)) (F0 m 14 ls []) := by
  have hC := hG.1
  have hx := hC.x
  have hb := hC.b
  have hown := hC.o
  have hts := hC.ts
  have hlt := hG.2.2.2.2.2
  intro H locs cells slots ls M hk hn hZ hl hw
  refine lv_iconst (v := (-1)) hx hb dX9_write_14 (by decide) ?_
  exact z_iret hG hZ hk hn hw dX9_write_15
def wp_X9_write_L68 (D : zD) (post : Int32 → zM → Prop) (o : Nat) (y0 : Int32) (M : zM) : Prop :=
    post y0 M
set_option maxHeartbeats 4000000 in
set_option maxRecDepth 100000 in
theorem wk_X9_write_L68 {p : Program} {l : Launch} {e : Env} {s : State} {m : MethodId} {args : Array Value} {below : List Frame} {meth : Method} {c : Code} {D : zD} {post : Int32 → zM → Prop} {o : Nat} (hG : zGx p l s m args meth c cX9_write 3 "PluralBranchesModel" D (some .int) "write" []) : ∀ {H : Heap} {locs : List Loc} {cells slots : Nat} {ls : Array Slot} (y0 : Int32) (M : zM), cells ≤ 0 → slots ≤ 0 → zS D M H locs → lv_has ls 3 [] → wp_X9_write_L68 D post o y0 M → W p l e rm_X9_write s m args below meth c H locs cells slots (vx_MQ below (zQ D zI post) (zX D (fun _ _ => False)) args s 0 0 (zA D)) (F0 m 68 ls [.int y0]) := by
  have hC := hG.1
  have hx := hC.x
  have hb := hC.b
  have hown := hC.o
  have hts := hC.ts
  have hlt := hG.2.2.2.2.2
  intro H locs cells slots ls y0 M hk hn hZ hl hw
  exact z_iret hG hZ hk hn hw dX9_write_68
def wp_X9_write (D : zD) (post : Int32 → zM → Prop) (o : Nat) (a0 : Int32) (a1 : Int32) (M : zM) : Prop :=
    (wp_X9_isSlot D (fun r1 M => ((r1 = 0 → wp_X9_write_L14 D post o M) ∧ (¬ r1 = 0 → (wp_X9_isLanguage D (fun r4 M => ((¬ r4 = 0 → (zgR M o 8 9 fun g7 => ((zd g7 fun b8 => zaI M b8 0 a0 fun v9 => ((0 ≤ v9 → (zp D M o 8 48 (.int (0 : Int32)) fun M => (zp D M o 8 49 (.int a1) fun M => (zp D M o 8 50 (.int (0 : Int32)) fun M => ((zis M o [8] ∧ wp_X9_writesMessage D 6 (fun _ M => (zgI M o 8 50 fun g13 => ((g13 = 0 → ((zis M o [8] ∧ wp_X9_puts D (fun r14 M => wp_X9_write_L68 D post o r14 M) o M))) ∧ (¬ g13 = 0 → (zgI M o 8 50 fun g17 => wp_X9_write_L68 D post o g17 M))))) o a0 (0 : Int32) (0 : Int32) M)))))) ∧ (¬ 0 ≤ v9 → post (-2 : Int32) M)))))) ∧ (r4 = 0 → wp_X9_write_L14 D post o M))) a1 M)))) a0 M)
set_option maxHeartbeats 4000000 in
set_option maxRecDepth 100000 in
theorem w_X9_write {l : Launch} {D : zD} {post : Int32 → zM → Prop} (hlt : l.stackTraces = false) {o : Nat} {a0 : Int32} {a1 : Int32} {M : zM} (hw : wp_X9_write D post o a0 a1 M) : zMet l D yX9_write (ws_ yX9_write cX9_write 3 (some .int)) rm_X9_write 0 0 [.ref o, .int a0, .int a1] M zI post (fun _ _ => False) := by
  unfold wp_X9_write at hw
  have hlv : lv_args 0 [.ref o, .int a0, .int a1] = [(0, .ref o), (1, .int a0), (2, .int a1)] := (zargs1 rfl (zargs1 rfl (zargs1 rfl rfl)))
  refine z_ofW hlt (by decide) (Nat.le_trans (zsl1 rfl (zsl1 rfl (zsl1 rfl (Nat.le_refl 0 : (lg_sl []).length ≤ 0)))) (Nat.le_of_ble_eq_true rfl)) hlv ?_
  intro p e s m args below meth c ls hG hZ hl
  have hC := hG.1
  have hx := hC.x
  have hb := hC.b
  have hown := hC.o
  have hts := hC.ts
  have hlt := hG.2.2.2.2.2
  obtain ⟨cells, hce⟩ : ∃ z : Nat, z = 0 := ⟨0, rfl⟩
  obtain ⟨slots, hsl⟩ : ∃ z : Nat, z = 0 := ⟨0, rfl⟩
  refine W.cs (cells' := cells) (slots' := slots) hce.symm hsl.symm ?_
  have hk : cells ≤ 0 := Nat.le_of_eq hce
  have hn : slots ≤ 0 := Nat.le_of_eq hsl
  clear hce hsl
  refine lv_iload_n hx hb dX9_write_0 rfl (lv_at hl 1 rfl) ?_
  refine z_callI hZ (vx_runS (As := [.int a0]) (rest := []) hC.fix (w_X9_isSlot hlt hw) (va_cwS 1 hts (lw_S q1963 q1964 q83 q1965) rfl rfl rfl dd_X9_isSlot ⟨Nat.le_of_ble_eq_true rfl, Nat.le_of_ble_eq_true rfl⟩) (z_preS hC hZ) rfl rfl hl.1 rfl (lv_room (Nat.zero_le _)) dX9_write_1 ⟨hk, hn⟩) (fun r25 M H locs hw1 hZ => ?_) (fun q M H locs ci fs E T9 N9 hw hZ hc1 hM1 hb1 => False.elim hw)
  replace hw := hw1
  clear hw1
  refine W.cs (cells' := cells) (slots' := slots) rfl rfl ?_
  refine lv_if_eq (tgt := 14) hx hb dX9_write_4 (by decide) (fun c48 => ?_) (fun c48 => ?_)
  · replace hw := hw.1 c48
    exact wk_X9_write_L14 hG _ hk hn hZ (lv_sub hl [] rfl) hw
  · replace hw := hw.2 c48
    refine lv_iload_n hx hb dX9_write_7 rfl (lv_at hl 2 rfl) ?_
    refine z_callI hZ (vx_runS (As := [.int a1]) (rest := []) hC.fix (w_X9_isLanguage hlt hw) (va_cwS 1 hts (lw_S q1919 q1920 q83 q1921) rfl rfl rfl dd_X9_isLanguage ⟨Nat.le_of_ble_eq_true rfl, Nat.le_of_ble_eq_true rfl⟩) (z_preS hC hZ) rfl rfl hl.1 rfl (lv_room (Nat.zero_le _)) dX9_write_8 ⟨hk, hn⟩) (fun r28 M H locs hw1 hZ => ?_) (fun q M H locs ci fs E T9 N9 hw hZ hc1 hM1 hb1 => False.elim hw)
    replace hw := hw1
    clear hw1
    refine W.cs (cells' := cells) (slots' := slots) rfl rfl ?_
    refine lv_if_ne (tgt := 16) hx hb dX9_write_11 (by decide) (fun c47 => ?_) (fun c47 => ?_)
    · replace hw := hw.1 c47
      refine lv_aload_n hx hb dX9_write_16 rfl (lv_at hl 0 rfl) ?_
      obtain ⟨fs0, g31, hM0, hx0, hw⟩ := hw
      refine z_get hC hZ hM0 zc8 9 (by decide) q1729 (fun _ h9 => h9) hx0 dX9_write_17 ?_
      refine lv_iload_n hx hb dX9_write_20 rfl (lv_at hl 1 rfl) ?_
      obtain ⟨b32, hr0, hw⟩ := hw
      subst hr0
      obtain ⟨n0, f0, hM0, hi0, hw⟩ := hw
      refine z_iald hC hZ hM0 hi0 dX9_write_21 ?_
      generalize f0 _ = v33 at hw ⊢
      refine lv_if_ge (tgt := 28) hx hb dX9_write_22 (by decide) (fun c46 => ?_) (fun c46 => ?_)
      · replace hw := hw.1 c46
        refine lv_aload_n hx hb dX9_write_28 rfl (lv_at hl 0 rfl) ?_
        refine lv_iconst (v := 0) hx hb dX9_write_29 (by decide) ?_
        obtain ⟨fs0, hM0, hb0, hk0, hw⟩ := hw
        refine z_put hC hZ hM0 hb0 zc8 48 (by decide) q1768 (fun _ h9 => h9) (by decide) rfl rfl hk0 dX9_write_30 (fun H locs hZ => ?_)
        generalize zu M _ _ = M at hw hZ
        refine lv_aload_n hx hb dX9_write_33 rfl (lv_at hl 0 rfl) ?_
        refine lv_iload_n hx hb dX9_write_34 rfl (lv_at hl 2 rfl) ?_
        obtain ⟨fs0, hM0, hb0, hk0, hw⟩ := hw
        refine z_put hC hZ hM0 hb0 zc8 49 (by decide) q1769 (fun _ h9 => h9) (by decide) rfl rfl hk0 dX9_write_35 (fun H locs hZ => ?_)
        generalize zu M _ _ = M at hw hZ
        refine lv_aload_n hx hb dX9_write_38 rfl (lv_at hl 0 rfl) ?_
        refine lv_iconst (v := 0) hx hb dX9_write_39 (by decide) ?_
        obtain ⟨fs0, hM0, hb0, hk0, hw⟩ := hw
        refine z_put hC hZ hM0 hb0 zc8 50 (by decide) q1770 (fun _ h9 => h9) (by decide) rfl rfl hk0 dX9_write_40 (fun H locs hZ => ?_)
        generalize zu M _ _ = M at hw hZ
        refine lv_aload_n hx hb dX9_write_43 rfl (lv_at hl 0 rfl) ?_
        refine lv_iload_n hx hb dX9_write_44 rfl (lv_at hl 1 rfl) ?_
        refine lv_iconst (v := 0) hx hb dX9_write_45 (by decide) ?_
        refine lv_iconst (v := 0) hx hb dX9_write_46 (by decide) ?_
        obtain ⟨⟨ci0, fs0, hci0, hM0⟩, hw⟩ := hw
        obtain rfl : ci0 = 8 := List.mem_singleton.mp hci0
        refine z_callU hZ (vx_runV (As := [.int a0, .int (0 : Int32), .int (0 : Int32)]) (rest := []) hC.fix (w_X9_writesMessage hlt 6 _ _ _ _ _ _ hw) (cwV 3 hts (lw_V q2121 q2123 qs49 q83 q2124) rfl rfl rfl ⟨rfl, dd_X9_writesMessage⟩ ⟨(show 4 + 5 * 6 + 1 ≤ 35 by omega), (show 8 + (6 + 11) + (135 + 121 * 6) ≤ 886 by omega)⟩) (z_preV hC hZ hM0 zc8) rfl rfl hl.1 rfl (lv_room (Nat.zero_le _)) dX9_write_47 ⟨hk, hn⟩) (fun r34 M H locs hw1 hZ => ?_) (fun q M H locs ci fs E T9 N9 hw hZ hc1 hM1 hb1 => False.elim hw)
        replace hw := hw1
        clear hw1
        refine W.cs (cells' := cells) (slots' := slots) rfl rfl ?_
        refine lv_aload_n hx hb dX9_write_50 rfl (lv_at hl 0 rfl) ?_
        obtain ⟨fs0, g37, hM0, hx0, hw⟩ := hw
        refine z_get hC hZ hM0 zc8 50 (by decide) q1770 (fun _ h9 => h9) hx0 dX9_write_51 ?_
        refine lv_if_eq (tgt := 64) hx hb dX9_write_54 (by decide) (fun c42 => ?_) (fun c42 => ?_)
        · replace hw := hw.1 c42
          refine lv_aload_n hx hb dX9_write_64 rfl (lv_at hl 0 rfl) ?_
          obtain ⟨⟨ci0, fs0, hci0, hM0⟩, hw⟩ := hw
          obtain rfl : ci0 = 8 := List.mem_singleton.mp hci0
          refine z_callI hZ (vx_runV (As := []) (rest := []) hC.fix (w_X9_puts hlt hw) (cwV 0 hts (lw_V q2198 q2200 qs64 q83 q2201) rfl rfl rfl ⟨rfl, dd_X9_puts⟩ ⟨Nat.le_of_ble_eq_true rfl, Nat.le_of_ble_eq_true rfl⟩) (z_preV hC hZ hM0 zc8) rfl rfl hl.1 rfl (lv_room (Nat.zero_le _)) dX9_write_65 ⟨hk, hn⟩) (fun r38 M H locs hw1 hZ => ?_) (fun q M H locs ci fs E T9 N9 hw hZ hc1 hM1 hb1 => False.elim hw)
          replace hw := hw1
          clear hw1
          refine W.cs (cells' := cells) (slots' := slots) rfl rfl ?_
          exact wk_X9_write_L68 hG _ _ hk hn hZ (lv_sub hl [] rfl) hw
        · replace hw := hw.2 c42
          refine lv_aload_n hx hb dX9_write_57 rfl (lv_at hl 0 rfl) ?_
          obtain ⟨fs0, g41, hM0, hx0, hw⟩ := hw
          refine z_get hC hZ hM0 zc8 50 (by decide) q1770 (fun _ h9 => h9) hx0 dX9_write_58 ?_
          refine lv_goto (tgt := 68) hx hb dX9_write_61 (by decide) ?_
          exact wk_X9_write_L68 hG _ _ hk hn hZ (lv_sub hl [] rfl) hw
      · replace hw := hw.2 c46
        refine lv_bipush (v := (-2)) hx hb dX9_write_25 (by decide) ?_
        exact z_iret hG hZ hk hn hw dX9_write_27
    · replace hw := hw.2 c47
      exact wk_X9_write_L14 hG _ hk hn hZ (lv_sub hl [] rfl) hw
