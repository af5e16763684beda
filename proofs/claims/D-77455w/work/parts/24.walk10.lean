set_option maxRecDepth 100000
theorem dd_X9_deadOf : yX9_deadOf.cls ≠ "java/lang/invoke/MethodHandle" ∧ yX9_deadOf.cls ≠ "java/lang/invoke/VarHandle" ∧ (parseMethodDescriptor yX9_deadOf.desc).map (fun d => d.parameters.length) = some 3 := by decide +kernel
theorem dd_X9_here : yX9_here.cls ≠ "java/lang/invoke/MethodHandle" ∧ yX9_here.cls ≠ "java/lang/invoke/VarHandle" ∧ (parseMethodDescriptor yX9_here.desc).map (fun d => d.parameters.length) = some 0 := by decide +kernel
theorem dd_X9_isPointed : yX9_isPointed.cls ≠ "java/lang/invoke/MethodHandle" ∧ yX9_isPointed.cls ≠ "java/lang/invoke/VarHandle" ∧ (parseMethodDescriptor yX9_isPointed.desc).map (fun d => d.parameters.length) = some 1 := by decide +kernel
theorem dd_X9_isWrong : yX9_isWrong.cls ≠ "java/lang/invoke/MethodHandle" ∧ yX9_isWrong.cls ≠ "java/lang/invoke/VarHandle" ∧ (parseMethodDescriptor yX9_isWrong.desc).map (fun d => d.parameters.length) = some 1 := by decide +kernel
theorem dd_X9_keyOf : yX9_keyOf.cls ≠ "java/lang/invoke/MethodHandle" ∧ yX9_keyOf.cls ≠ "java/lang/invoke/VarHandle" ∧ (parseMethodDescriptor yX9_keyOf.desc).map (fun d => d.parameters.length) = some 2 := by decide +kernel
theorem dd_X9_readsBranches : yX9_readsBranches.cls ≠ "java/lang/invoke/MethodHandle" ∧ yX9_readsBranches.cls ≠ "java/lang/invoke/VarHandle" ∧ (parseMethodDescriptor yX9_readsBranches.desc).map (fun d => d.parameters.length) = some 3 := by decide +kernel
theorem dd_X9_readsKey : yX9_readsKey.cls ≠ "java/lang/invoke/MethodHandle" ∧ yX9_readsKey.cls ≠ "java/lang/invoke/VarHandle" ∧ (parseMethodDescriptor yX9_readsKey.desc).map (fun d => d.parameters.length) = some 1 := by decide +kernel
theorem dd_X9_readsMessage : yX9_readsMessage.cls ≠ "java/lang/invoke/MethodHandle" ∧ yX9_readsMessage.cls ≠ "java/lang/invoke/VarHandle" ∧ (parseMethodDescriptor yX9_readsMessage.desc).map (fun d => d.parameters.length) = some 2 := by decide +kernel
theorem dd_X9_readsPattern : yX9_readsPattern.cls ≠ "java/lang/invoke/MethodHandle" ∧ yX9_readsPattern.cls ≠ "java/lang/invoke/VarHandle" ∧ (parseMethodDescriptor yX9_readsPattern.desc).map (fun d => d.parameters.length) = some 0 := by decide +kernel
theorem dd_X9_takes : yX9_takes.cls ≠ "java/lang/invoke/MethodHandle" ∧ yX9_takes.cls ≠ "java/lang/invoke/VarHandle" ∧ (parseMethodDescriptor yX9_takes.desc).map (fun d => d.parameters.length) = some 1 := by decide +kernel
theorem dd_X9_uses : yX9_uses.cls ≠ "java/lang/invoke/MethodHandle" ∧ yX9_uses.cls ≠ "java/lang/invoke/VarHandle" ∧ (parseMethodDescriptor yX9_uses.desc).map (fun d => d.parameters.length) = some 3 := by decide +kernel
theorem dd_X9_zeros : yX9_zeros.cls ≠ "java/lang/invoke/MethodHandle" ∧ yX9_zeros.cls ≠ "java/lang/invoke/VarHandle" ∧ (parseMethodDescriptor yX9_zeros.desc).map (fun d => d.parameters.length) = some 2 := by decide +kernel
abbrev rm_X9_decimal : Room := { frames := 3, cells := 0, slots := 0, locals := 109 }
def wp_X9_decimal_L19 (D : zD) (post : Int32 → zM → Prop) (o : Nat) (M : zM) : Prop :=
    post (-1 : Int32) M
set_option maxHeartbeats 4000000 in
set_option maxRecDepth 100000 in
theorem wk_X9_decimal_L19 {p : Program} {l : Launch} {e : Env} {s : State} {m : MethodId} {args : Array Value} {below : List Frame} {meth : Method} {c : Code} {D : zD} {post : Int32 → zM → Prop} {o : Nat} (hG : zGx p l s m args meth c cX9_decimal 4 "PluralBranchesModel" D (some .int) "decimal" []) : ∀ {H : Heap} {locs : List Loc} {cells slots : Nat} {ls : Array Slot} (M : zM), cells ≤ 0 → slots ≤ 0 → zS D M H locs → lv_has ls 4 [] → wp_X9_decimal_L19 D post o M → W p l e rm_X9_decimal s m args below meth c H locs cells slots (vx_MQ below (zQ D zI post) (zX D (fun _ _ => False)) args s 0 0 (zA D)) (F0 m 19 ls []) := by
  have hC := hG.1
  have hx := hC.x
  have hb := hC.b
  have hown := hC.o
  have hts := hC.ts
  have hlt := hG.2.2.2.2.2
  intro H locs cells slots ls M hk hn hZ hl hw
  refine lv_iconst (v := (-1)) hx hb dX9_decimal_19 (by decide) ?_
  exact z_iret hG hZ hk hn hw dX9_decimal_20
def wp_X9_decimal (D : zD) (post : Int32 → zM → Prop) (o : Nat) (a0 : Int32) (a1 : Int32) (a2 : Int32) (M : zM) : Prop :=
    (wp_X9_isArgument D (fun r1 M => ((r1 = 0 → wp_X9_decimal_L19 D post o M) ∧ (¬ r1 = 0 → (wp_X9_in D (fun r4 M => ((¬ r4 = 0 → ((zis M o [8] ∧ wp_X9_holdsNow D (fun _ M => post (1 : Int32) M) o a0 (1 : Int32) a1 a2 M))) ∧ (r4 = 0 → wp_X9_decimal_L19 D post o M))) (a2.toInt64) (0 : Int64) (6 : Int64) M)))) a0 M)
set_option maxHeartbeats 4000000 in
set_option maxRecDepth 100000 in
theorem w_X9_decimal {l : Launch} {D : zD} {post : Int32 → zM → Prop} (hlt : l.stackTraces = false) {o : Nat} {a0 : Int32} {a1 : Int32} {a2 : Int32} {M : zM} (hw : wp_X9_decimal D post o a0 a1 a2 M) : zMet l D yX9_decimal (ws_ yX9_decimal cX9_decimal 4 (some .int)) rm_X9_decimal 0 0 [.ref o, .int a0, .int a1, .int a2] M zI post (fun _ _ => False) := by
  unfold wp_X9_decimal at hw
  have hlv : lv_args 0 [.ref o, .int a0, .int a1, .int a2] = [(0, .ref o), (1, .int a0), (2, .int a1), (3, .int a2)] := (zargs1 rfl (zargs1 rfl (zargs1 rfl (zargs1 rfl rfl))))
  refine z_ofW hlt (by decide) (Nat.le_trans (zsl1 rfl (zsl1 rfl (zsl1 rfl (zsl1 rfl (Nat.le_refl 0 : (lg_sl []).length ≤ 0))))) (Nat.le_of_ble_eq_true rfl)) hlv ?_
  intro p e s m args below meth c ls hG hZ hl
  have hC := hG.1
  have hx := hC.x
  have hb := hC.b
  have hown := hC.o
  have hts := hC.ts
  have hlt := hG.2.2.2.2.2
  obtain ⟨cells, hce⟩ : ∃ z : Nat, z = 0 := ⟨0, rfl⟩
  obtain ⟨slots, hsl⟩ : ∃ z : Nat, z = 0 := ⟨0, rfl⟩
  refine W.cs (cells' := cells) (slots' := slots) hce.symm hsl.symm ?_
  have hk : cells ≤ 0 := Nat.le_of_eq hce
  have hn : slots ≤ 0 := Nat.le_of_eq hsl
  clear hce hsl
  refine lv_iload_n hx hb dX9_decimal_0 rfl (lv_at hl 1 rfl) ?_
  refine z_callI hZ (vx_runS (As := [.int a0]) (rest := []) hC.fix (w_X9_isArgument hlt hw) (va_cwS 1 hts (lw_S q2030 q2031 q83 q2032) rfl rfl rfl dd_X9_isArgument ⟨Nat.le_of_ble_eq_true rfl, Nat.le_of_ble_eq_true rfl⟩) (z_preS hC hZ) rfl rfl hl.1 rfl (lv_room (Nat.zero_le _)) dX9_decimal_1 ⟨hk, hn⟩) (fun r12 M H locs hw1 hZ => ?_) (fun q M H locs ci fs E T9 N9 hw hZ hc1 hM1 hb1 => False.elim hw)
  replace hw := hw1
  clear hw1
  refine W.cs (cells' := cells) (slots' := slots) rfl rfl ?_
  refine lv_if_eq (tgt := 19) hx hb dX9_decimal_4 (by decide) (fun c22 => ?_) (fun c22 => ?_)
  · replace hw := hw.1 c22
    exact wk_X9_decimal_L19 hG _ hk hn hZ (lv_sub hl [] rfl) hw
  · replace hw := hw.2 c22
    refine lv_iload_n hx hb dX9_decimal_7 rfl (lv_at hl 3 rfl) ?_
    refine lv_i2l hx hb dX9_decimal_8 rfl ?_
    refine lv_lconst (v := 0) hx hb dX9_decimal_9 (by decide) ?_
    refine lv_ldc2 hx hb hown (hts _ q1893) dX9_decimal_10 ?_
    refine z_callI hZ (vx_runS (As := [.long (a2.toInt64), .long (0 : Int64), .long (6 : Int64)]) (rest := []) hC.fix (w_X9_in hlt hw) (va_cwS 3 hts (lw_S q1894 q1895 q83 q1896) rfl rfl rfl dd_X9_in ⟨Nat.le_of_ble_eq_true rfl, Nat.le_of_ble_eq_true rfl⟩) (z_preS hC hZ) rfl rfl hl.1 rfl (lv_room (Nat.zero_le _)) dX9_decimal_13 ⟨hk, hn⟩) (fun r15 M H locs hw1 hZ => ?_) (fun q M H locs ci fs E T9 N9 hw hZ hc1 hM1 hb1 => False.elim hw)
    replace hw := hw1
    clear hw1
    refine W.cs (cells' := cells) (slots' := slots) rfl rfl ?_
    refine lv_if_ne (tgt := 21) hx hb dX9_decimal_16 (by decide) (fun c21 => ?_) (fun c21 => ?_)
    · replace hw := hw.1 c21
      refine lv_aload_n hx hb dX9_decimal_21 rfl (lv_at hl 0 rfl) ?_
      refine lv_iload_n hx hb dX9_decimal_22 rfl (lv_at hl 1 rfl) ?_
      refine lv_iconst (v := 1) hx hb dX9_decimal_23 (by decide) ?_
      refine lv_iload_n hx hb dX9_decimal_24 rfl (lv_at hl 2 rfl) ?_
      refine lv_iload_n hx hb dX9_decimal_25 rfl (lv_at hl 3 rfl) ?_
      obtain ⟨⟨ci0, fs0, hci0, hM0⟩, hw⟩ := hw
      obtain rfl : ci0 = 8 := List.mem_singleton.mp hci0
      refine z_callU hZ (vx_runV (As := [.int a0, .int (1 : Int32), .int a1, .int a2]) (rest := []) hC.fix (w_X9_holdsNow hlt hw) (cwV 4 hts (lw_V q2081 q2083 qs48 q83 q2084) rfl rfl rfl ⟨rfl, dd_X9_holdsNow⟩ ⟨Nat.le_of_ble_eq_true rfl, Nat.le_of_ble_eq_true rfl⟩) (z_preV hC hZ hM0 zc8) rfl rfl hl.1 rfl (lv_room (Nat.zero_le _)) dX9_decimal_26 ⟨hk, hn⟩) (fun r18 M H locs hw1 hZ => ?_) (fun q M H locs ci fs E T9 N9 hw hZ hc1 hM1 hb1 => False.elim hw)
      replace hw := hw1
      clear hw1
      refine W.cs (cells' := cells) (slots' := slots) rfl rfl ?_
      refine lv_iconst (v := 1) hx hb dX9_decimal_29 (by decide) ?_
      exact z_iret hG hZ hk hn hw dX9_decimal_30
    · replace hw := hw.2 c21
      exact wk_X9_decimal_L19 hG _ hk hn hZ (lv_sub hl [] rfl) hw
abbrev rm_X9_feed : Room := { frames := 2, cells := 0, slots := 0, locals := 89 }
def wp_X9_feed (D : zD) (post : Int32 → zM → Prop) (o : Nat) (a0 : Int32) (M : zM) : Prop :=
    (wp_X9_in D (fun r1 M => ((¬ r1 = 0 → (zgI M o 8 8 fun g4 => ((¬ g4 = (120 : Int32) → (zgR M o 8 7 fun g5 => (zgI M o 8 8 fun g6 => ((zd g5 fun b7 => zsI D M b7 g6 a0 fun M => (zgI M o 8 8 fun g8 => (zp D M o 8 8 (.int (g8 + (1 : Int32))) fun M => (zgI M o 8 8 fun g9 => post g9 M)))))))) ∧ (g4 = (120 : Int32) → post (-3 : Int32) M)))) ∧ (r1 = 0 → post (-1 : Int32) M))) (a0.toInt64) (0 : Int64) (255 : Int64) M)
set_option maxHeartbeats 4000000 in
set_option maxRecDepth 100000 in
theorem w_X9_feed {l : Launch} {D : zD} {post : Int32 → zM → Prop} (hlt : l.stackTraces = false) {o : Nat} {a0 : Int32} {M : zM} (hw : wp_X9_feed D post o a0 M) : zMet l D yX9_feed (ws_ yX9_feed cX9_feed 2 (some .int)) rm_X9_feed 0 0 [.ref o, .int a0] M zI post (fun _ _ => False) := by
  unfold wp_X9_feed at hw
  have hlv : lv_args 0 [.ref o, .int a0] = [(0, .ref o), (1, .int a0)] := (zargs1 rfl (zargs1 rfl rfl))
  refine z_ofW hlt (by decide) (Nat.le_trans (zsl1 rfl (zsl1 rfl (Nat.le_refl 0 : (lg_sl []).length ≤ 0))) (Nat.le_of_ble_eq_true rfl)) hlv ?_
  intro p e s m args below meth c ls hG hZ hl
  have hC := hG.1
  have hx := hC.x
  have hb := hC.b
  have hown := hC.o
  have hts := hC.ts
  have hlt := hG.2.2.2.2.2
  obtain ⟨cells, hce⟩ : ∃ z : Nat, z = 0 := ⟨0, rfl⟩
  obtain ⟨slots, hsl⟩ : ∃ z : Nat, z = 0 := ⟨0, rfl⟩
  refine W.cs (cells' := cells) (slots' := slots) hce.symm hsl.symm ?_
  have hk : cells ≤ 0 := Nat.le_of_eq hce
  have hn : slots ≤ 0 := Nat.le_of_eq hsl
  clear hce hsl
  refine lv_iload_n hx hb dX9_feed_0 rfl (lv_at hl 1 rfl) ?_
  refine lv_i2l hx hb dX9_feed_1 rfl ?_
  refine lv_lconst (v := 0) hx hb dX9_feed_2 (by decide) ?_
  refine lv_ldc2 hx hb hown (hts _ q1954) dX9_feed_3 ?_
  refine z_callI hZ (vx_runS (As := [.long (a0.toInt64), .long (0 : Int64), .long (255 : Int64)]) (rest := []) hC.fix (w_X9_in hlt hw) (va_cwS 3 hts (lw_S q1894 q1895 q83 q1896) rfl rfl rfl dd_X9_in ⟨Nat.le_of_ble_eq_true rfl, Nat.le_of_ble_eq_true rfl⟩) (z_preS hC hZ) rfl rfl hl.1 rfl (lv_room (Nat.zero_le _)) dX9_feed_6 ⟨hk, hn⟩) (fun r13 M H locs hw1 hZ => ?_) (fun q M H locs ci fs E T9 N9 hw hZ hc1 hM1 hb1 => False.elim hw)
  replace hw := hw1
  clear hw1
  refine W.cs (cells' := cells) (slots' := slots) rfl rfl ?_
  refine lv_if_ne (tgt := 14) hx hb dX9_feed_9 (by decide) (fun c24 => ?_) (fun c24 => ?_)
  · replace hw := hw.1 c24
    refine lv_aload_n hx hb dX9_feed_14 rfl (lv_at hl 0 rfl) ?_
    obtain ⟨fs0, g16, hM0, hx0, hw⟩ := hw
    refine z_get hC hZ hM0 zc8 8 (by decide) q1728 (fun _ h9 => h9) hx0 dX9_feed_15 ?_
    refine lv_bipush (v := 120) hx hb dX9_feed_18 (by decide) ?_
    refine lv_icmp_ne (tgt := 26) hx hb dX9_feed_20 (by decide) (fun c23 => ?_) (fun c23 => ?_)
    · replace hw := hw.1 c23
      refine lv_aload_n hx hb dX9_feed_26 rfl (lv_at hl 0 rfl) ?_
      obtain ⟨fs0, g17, hM0, hx0, hw⟩ := hw
      refine z_get hC hZ hM0 zc8 7 (by decide) q1727 (fun _ h9 => h9) hx0 dX9_feed_27 ?_
      refine lv_aload_n hx hb dX9_feed_30 rfl (lv_at hl 0 rfl) ?_
      obtain ⟨fs0, g18, hM0, hx0, hw⟩ := hw
      refine z_get hC hZ hM0 zc8 8 (by decide) q1728 (fun _ h9 => h9) hx0 dX9_feed_31 ?_
      refine lv_iload_n hx hb dX9_feed_34 rfl (lv_at hl 1 rfl) ?_
      obtain ⟨b19, hr0, hw⟩ := hw
      subst hr0
      obtain ⟨n0, f0, hM0, hb0, hi0, hw⟩ := hw
      refine z_iast hC hZ hM0 hb0 hi0 dX9_feed_35 (fun H locs hZ => ?_)
      generalize zu M _ _ = M at hw hZ
      refine lv_aload_n hx hb dX9_feed_36 rfl (lv_at hl 0 rfl) ?_
      refine lv_dup hx hb dX9_feed_37 rfl ?_
      obtain ⟨fs0, g20, hM0, hx0, hw⟩ := hw
      refine z_get hC hZ hM0 zc8 8 (by decide) q1728 (fun _ h9 => h9) hx0 dX9_feed_38 ?_
      refine lv_iconst (v := 1) hx hb dX9_feed_41 (by decide) ?_
      refine lv_iadd hx hb dX9_feed_42 ?_
      obtain ⟨fs0, hM0, hb0, hk0, hw⟩ := hw
      refine z_put hC hZ hM0 hb0 zc8 8 (by decide) q1728 (fun _ h9 => h9) (by decide) rfl rfl hk0 dX9_feed_43 (fun H locs hZ => ?_)
      generalize zu M _ _ = M at hw hZ
      refine lv_aload_n hx hb dX9_feed_46 rfl (lv_at hl 0 rfl) ?_
      obtain ⟨fs0, g21, hM0, hx0, hw⟩ := hw
      refine z_get hC hZ hM0 zc8 8 (by decide) q1728 (fun _ h9 => h9) hx0 dX9_feed_47 ?_
      exact z_iret hG hZ hk hn hw dX9_feed_50
    · replace hw := hw.2 c23
      refine lv_bipush (v := (-3)) hx hb dX9_feed_23 (by decide) ?_
      exact z_iret hG hZ hk hn hw dX9_feed_25
  · replace hw := hw.2 c24
    refine lv_iconst (v := (-1)) hx hb dX9_feed_12 (by decide) ?_
    exact z_iret hG hZ hk hn hw dX9_feed_13
abbrev rm_X9_forget : Room := { frames := 3, cells := 0, slots := 0, locals := 109 }
def wp_X9_forget (D : zD) (post : Int32 → zM → Prop) (o : Nat) (a0 : Int32) (M : zM) : Prop :=
    (wp_X9_isArgument D (fun r1 M => ((¬ r1 = 0 → (zgR M o 8 41 fun g4 => ((zd g4 fun b5 => zaI M b5 0 a0 fun v6 => (zgR M o 8 41 fun g7 => ((zd g7 fun b8 => zsI D M b8 a0 (0 : Int32) fun M => post v6 M))))))) ∧ (r1 = 0 → post (-1 : Int32) M))) a0 M)
set_option maxHeartbeats 4000000 in
set_option maxRecDepth 100000 in
theorem w_X9_forget {l : Launch} {D : zD} {post : Int32 → zM → Prop} (hlt : l.stackTraces = false) {o : Nat} {a0 : Int32} {M : zM} (hw : wp_X9_forget D post o a0 M) : zMet l D yX9_forget (ws_ yX9_forget cX9_forget 3 (some .int)) rm_X9_forget 0 0 [.ref o, .int a0] M zI post (fun _ _ => False) := by
  unfold wp_X9_forget at hw
  have hlv : lv_args 0 [.ref o, .int a0] = [(0, .ref o), (1, .int a0)] := (zargs1 rfl (zargs1 rfl rfl))
  refine z_ofW hlt (by decide) (Nat.le_trans (zsl1 rfl (zsl1 rfl (Nat.le_refl 0 : (lg_sl []).length ≤ 0))) (Nat.le_of_ble_eq_true rfl)) hlv ?_
  intro p e s m args below meth c ls hG hZ hl
  have hC := hG.1
  have hx := hC.x
  have hb := hC.b
  have hown := hC.o
  have hts := hC.ts
  have hlt := hG.2.2.2.2.2
  obtain ⟨cells, hce⟩ : ∃ z : Nat, z = 0 := ⟨0, rfl⟩
  obtain ⟨slots, hsl⟩ : ∃ z : Nat, z = 0 := ⟨0, rfl⟩
  refine W.cs (cells' := cells) (slots' := slots) hce.symm hsl.symm ?_
  have hk : cells ≤ 0 := Nat.le_of_eq hce
  have hn : slots ≤ 0 := Nat.le_of_eq hsl
  clear hce hsl
  refine lv_iload_n hx hb dX9_forget_0 rfl (lv_at hl 1 rfl) ?_
  refine z_callI hZ (vx_runS (As := [.int a0]) (rest := []) hC.fix (w_X9_isArgument hlt hw) (va_cwS 1 hts (lw_S q2030 q2031 q83 q2032) rfl rfl rfl dd_X9_isArgument ⟨Nat.le_of_ble_eq_true rfl, Nat.le_of_ble_eq_true rfl⟩) (z_preS hC hZ) rfl rfl hl.1 rfl (lv_room (Nat.zero_le _)) dX9_forget_1 ⟨hk, hn⟩) (fun r10 M H locs hw1 hZ => ?_) (fun q M H locs ci fs E T9 N9 hw hZ hc1 hM1 hb1 => False.elim hw)
  replace hw := hw1
  clear hw1
  refine W.cs (cells' := cells) (slots' := slots) rfl rfl ?_
  refine lv_if_ne (tgt := 9) hx hb dX9_forget_4 (by decide) (fun c18 => ?_) (fun c18 => ?_)
  · replace hw := hw.1 c18
    refine lv_aload_n hx hb dX9_forget_9 rfl (lv_at hl 0 rfl) ?_
    obtain ⟨fs0, g13, hM0, hx0, hw⟩ := hw
    refine z_get hC hZ hM0 zc8 41 (by decide) q1761 (fun _ h9 => h9) hx0 dX9_forget_10 ?_
    refine lv_iload_n hx hb dX9_forget_13 rfl (lv_at hl 1 rfl) ?_
    obtain ⟨b14, hr0, hw⟩ := hw
    subst hr0
    obtain ⟨n0, f0, hM0, hi0, hw⟩ := hw
    refine z_iald hC hZ hM0 hi0 dX9_forget_14 ?_
    generalize f0 _ = v15 at hw ⊢
    refine lv_istore_n (i := 2) (lv' := [(2, .int v15), (0, .ref o), (1, .int a0)]) hx hb dX9_forget_15 rfl hl (by decide) rfl (fun ls hl1 => ?_)
    replace hl := hl1
    clear hl1
    refine lv_aload_n hx hb dX9_forget_16 rfl (lv_at hl 1 rfl) ?_
    obtain ⟨fs0, g16, hM0, hx0, hw⟩ := hw
    refine z_get hC hZ hM0 zc8 41 (by decide) q1761 (fun _ h9 => h9) hx0 dX9_forget_17 ?_
    refine lv_iload_n hx hb dX9_forget_20 rfl (lv_at hl 2 rfl) ?_
    refine lv_iconst (v := 0) hx hb dX9_forget_21 (by decide) ?_
    obtain ⟨b17, hr0, hw⟩ := hw
    subst hr0
    obtain ⟨n0, f0, hM0, hb0, hi0, hw⟩ := hw
    refine z_iast hC hZ hM0 hb0 hi0 dX9_forget_22 (fun H locs hZ => ?_)
    generalize zu M _ _ = M at hw hZ
    refine lv_iload_n hx hb dX9_forget_23 rfl (lv_at hl 0 rfl) ?_
    exact z_iret hG hZ hk hn hw dX9_forget_24
  · replace hw := hw.2 c18
    refine lv_iconst (v := (-1)) hx hb dX9_forget_7 (by decide) ?_
    exact z_iret hG hZ hk hn hw dX9_forget_8
abbrev rm_X9_gender : Room := { frames := 3, cells := 0, slots := 0, locals := 109 }
def wp_X9_gender_L19 (D : zD) (post : Int32 → zM → Prop) (o : Nat) (M : zM) : Prop :=
    post (-1 : Int32) M
set_option maxHeartbeats 4000000 in
set_option maxRecDepth 100000 in
theorem wk_X9_gender_L19 {p : Program} {l : Launch} {e : Env} {s : State} {m : MethodId} {args : Array Value} {below : List Frame} {meth : Method} {c : Code} {D : zD} {post : Int32 → zM → Prop} {o : Nat} (hG : zGx p l s m args meth c cX9_gender 3 "PluralBranchesModel" D (some .int) "gender" []) : ∀ {H : Heap} {locs : List Loc} {cells slots : Nat} {ls : Array Slot} (M : zM), cells ≤ 0 → slots ≤ 0 → zS D M H locs → lv_has ls 3 [] → wp_X9_gender_L19 D post o M → W p l e rm_X9_gender s m args below meth c H locs cells slots (vx_MQ below (zQ D zI post) (zX D (fun _ _ => False)) args s 0 0 (zA D)) (F0 m 19 ls []) := by
  have hC := hG.1
  have hx := hC.x
  have hb := hC.b
  have hown := hC.o
  have hts := hC.ts
  have hlt := hG.2.2.2.2.2
  intro H locs cells slots ls M hk hn hZ hl hw
  refine lv_iconst (v := (-1)) hx hb dX9_gender_19 (by decide) ?_
  exact z_iret hG hZ hk hn hw dX9_gender_20
def wp_X9_gender (D : zD) (post : Int32 → zM → Prop) (o : Nat) (a0 : Int32) (a1 : Int32) (M : zM) : Prop :=
    (wp_X9_isArgument D (fun r1 M => ((r1 = 0 → wp_X9_gender_L19 D post o M) ∧ (¬ r1 = 0 → (wp_X9_in D (fun r4 M => ((¬ r4 = 0 → ((zis M o [8] ∧ wp_X9_holdsNow D (fun _ M => post (1 : Int32) M) o a0 (2 : Int32) a1 (0 : Int32) M))) ∧ (r4 = 0 → wp_X9_gender_L19 D post o M))) (a1.toInt64) (0 : Int64) (2 : Int64) M)))) a0 M)
set_option maxHeartbeats 4000000 in
set_option maxRecDepth 100000 in
theorem w_X9_gender {l : Launch} {D : zD} {post : Int32 → zM → Prop} (hlt : l.stackTraces = false) {o : Nat} {a0 : Int32} {a1 : Int32} {M : zM} (hw : wp_X9_gender D post o a0 a1 M) : zMet l D yX9_gender (ws_ yX9_gender cX9_gender 3 (some .int)) rm_X9_gender 0 0 [.ref o, .int a0, .int a1] M zI post (fun _ _ => False) := by
  unfold wp_X9_gender at hw
  have hlv : lv_args 0 [.ref o, .int a0, .int a1] = [(0, .ref o), (1, .int a0), (2, .int a1)] := (zargs1 rfl (zargs1 rfl (zargs1 rfl rfl)))
  refine z_ofW hlt (by decide) (Nat.le_trans (zsl1 rfl (zsl1 rfl (zsl1 rfl (Nat.le_refl 0 : (lg_sl []).length ≤ 0)))) (Nat.le_of_ble_eq_true rfl)) hlv ?_
  intro p e s m args below meth c ls hG hZ hl
  have hC := hG.1
  have hx := hC.x
  have hb := hC.b
  have hown := hC.o
  have hts := hC.ts
  have hlt := hG.2.2.2.2.2
  obtain ⟨cells, hce⟩ : ∃ z : Nat, z = 0 := ⟨0, rfl⟩
  obtain ⟨slots, hsl⟩ : ∃ z : Nat, z = 0 := ⟨0, rfl⟩
  refine W.cs (cells' := cells) (slots' := slots) hce.symm hsl.symm ?_
  have hk : cells ≤ 0 := Nat.le_of_eq hce
  have hn : slots ≤ 0 := Nat.le_of_eq hsl
  clear hce hsl
  refine lv_iload_n hx hb dX9_gender_0 rfl (lv_at hl 1 rfl) ?_
  refine z_callI hZ (vx_runS (As := [.int a0]) (rest := []) hC.fix (w_X9_isArgument hlt hw) (va_cwS 1 hts (lw_S q2030 q2031 q83 q2032) rfl rfl rfl dd_X9_isArgument ⟨Nat.le_of_ble_eq_true rfl, Nat.le_of_ble_eq_true rfl⟩) (z_preS hC hZ) rfl rfl hl.1 rfl (lv_room (Nat.zero_le _)) dX9_gender_1 ⟨hk, hn⟩) (fun r12 M H locs hw1 hZ => ?_) (fun q M H locs ci fs E T9 N9 hw hZ hc1 hM1 hb1 => False.elim hw)
  replace hw := hw1
  clear hw1
  refine W.cs (cells' := cells) (slots' := slots) rfl rfl ?_
  refine lv_if_eq (tgt := 19) hx hb dX9_gender_4 (by decide) (fun c22 => ?_) (fun c22 => ?_)
  · replace hw := hw.1 c22
    exact wk_X9_gender_L19 hG _ hk hn hZ (lv_sub hl [] rfl) hw
  · replace hw := hw.2 c22
    refine lv_iload_n hx hb dX9_gender_7 rfl (lv_at hl 2 rfl) ?_
    refine lv_i2l hx hb dX9_gender_8 rfl ?_
    refine lv_lconst (v := 0) hx hb dX9_gender_9 (by decide) ?_
    refine lv_ldc2 hx hb hown (hts _ q1931) dX9_gender_10 ?_
    refine z_callI hZ (vx_runS (As := [.long (a1.toInt64), .long (0 : Int64), .long (2 : Int64)]) (rest := []) hC.fix (w_X9_in hlt hw) (va_cwS 3 hts (lw_S q1894 q1895 q83 q1896) rfl rfl rfl dd_X9_in ⟨Nat.le_of_ble_eq_true rfl, Nat.le_of_ble_eq_true rfl⟩) (z_preS hC hZ) rfl rfl hl.1 rfl (lv_room (Nat.zero_le _)) dX9_gender_13 ⟨hk, hn⟩) (fun r15 M H locs hw1 hZ => ?_) (fun q M H locs ci fs E T9 N9 hw hZ hc1 hM1 hb1 => False.elim hw)
    replace hw := hw1
    clear hw1
    refine W.cs (cells' := cells) (slots' := slots) rfl rfl ?_
    refine lv_if_ne (tgt := 21) hx hb dX9_gender_16 (by decide) (fun c21 => ?_) (fun c21 => ?_)
    · replace hw := hw.1 c21
      refine lv_aload_n hx hb dX9_gender_21 rfl (lv_at hl 0 rfl) ?_
      refine lv_iload_n hx hb dX9_gender_22 rfl (lv_at hl 1 rfl) ?_
      refine lv_iconst (v := 2) hx hb dX9_gender_23 (by decide) ?_
      refine lv_iload_n hx hb dX9_gender_24 rfl (lv_at hl 2 rfl) ?_
      refine lv_iconst (v := 0) hx hb dX9_gender_25 (by decide) ?_
      obtain ⟨⟨ci0, fs0, hci0, hM0⟩, hw⟩ := hw
      obtain rfl : ci0 = 8 := List.mem_singleton.mp hci0
      refine z_callU hZ (vx_runV (As := [.int a0, .int (2 : Int32), .int a1, .int (0 : Int32)]) (rest := []) hC.fix (w_X9_holdsNow hlt hw) (cwV 4 hts (lw_V q2081 q2083 qs48 q83 q2084) rfl rfl rfl ⟨rfl, dd_X9_holdsNow⟩ ⟨Nat.le_of_ble_eq_true rfl, Nat.le_of_ble_eq_true rfl⟩) (z_preV hC hZ hM0 zc8) rfl rfl hl.1 rfl (lv_room (Nat.zero_le _)) dX9_gender_26 ⟨hk, hn⟩) (fun r18 M H locs hw1 hZ => ?_) (fun q M H locs ci fs E T9 N9 hw hZ hc1 hM1 hb1 => False.elim hw)
      replace hw := hw1
      clear hw1
      refine W.cs (cells' := cells) (slots' := slots) rfl rfl ?_
      refine lv_iconst (v := 1) hx hb dX9_gender_29 (by decide) ?_
      exact z_iret hG hZ hk hn hw dX9_gender_30
    · replace hw := hw.2 c21
      exact wk_X9_gender_L19 hG _ hk hn hZ (lv_sub hl [] rfl) hw
abbrev rm_X9_isPointed : Room := { frames := 1, cells := 0, slots := 0, locals := 64 }
def wp_X9_isPointed_L20 (D : zD) (post : Int32 → zM → Prop) (y0 : Int32) (M : zM) : Prop :=
    (narrow .boolean (.int y0) = .int y0 ∧ post y0 M)
set_option maxHeartbeats 4000000 in
set_option maxRecDepth 100000 in
theorem wk_X9_isPointed_L20 {p : Program} {l : Launch} {e : Env} {s : State} {m : MethodId} {args : Array Value} {below : List Frame} {meth : Method} {c : Code} {D : zD} {post : Int32 → zM → Prop} (hG : zGx p l s m args meth c cX9_isPointed 1 "PluralBranchesModel" D (some .boolean) "isPointed" []) : ∀ {H : Heap} {locs : List Loc} {cells slots : Nat} {ls : Array Slot} (y0 : Int32) (M : zM), cells ≤ 0 → slots ≤ 0 → zS D M H locs → lv_has ls 1 [] → wp_X9_isPointed_L20 D post y0 M → W p l e rm_X9_isPointed s m args below meth c H locs cells slots (vx_MQ below (zQ D zI post) (zX D (fun _ _ => False)) args s 0 0 (zA D)) (F0 m 20 ls [.int y0]) := by
  have hC := hG.1
  have hx := hC.x
  have hb := hC.b
  have hown := hC.o
  have hts := hC.ts
  have hlt := hG.2.2.2.2.2
  intro H locs cells slots ls y0 M hk hn hZ hl hw
  exact z_zret hG hZ hk hn hw.1 hw.2 dX9_isPointed_20
def wp_X9_isPointed_L15 (D : zD) (post : Int32 → zM → Prop) (M : zM) : Prop :=
    wp_X9_isPointed_L20 D post (1 : Int32) M
set_option maxHeartbeats 4000000 in
set_option maxRecDepth 100000 in
theorem wk_X9_isPointed_L15 {p : Program} {l : Launch} {e : Env} {s : State} {m : MethodId} {args : Array Value} {below : List Frame} {meth : Method} {c : Code} {D : zD} {post : Int32 → zM → Prop} (hG : zGx p l s m args meth c cX9_isPointed 1 "PluralBranchesModel" D (some .boolean) "isPointed" []) : ∀ {H : Heap} {locs : List Loc} {cells slots : Nat} {ls : Array Slot} (M : zM), cells ≤ 0 → slots ≤ 0 → zS D M H locs → lv_has ls 1 [] → wp_X9_isPointed_L15 D post M → W p l e rm_X9_isPointed s m args below meth c H locs cells slots (vx_MQ below (zQ D zI post) (zX D (fun _ _ => False)) args s 0 0 (zA D)) (F0 m 15 ls []) := by
  have hC := hG.1
  have hx := hC.x
  have hb := hC.b
  have hown := hC.o
  have hts := hC.ts
  have hlt := hG.2.2.2.2.2
  intro H locs cells slots ls M hk hn hZ hl hw
  refine lv_iconst (v := 1) hx hb dX9_isPointed_15 (by decide) ?_
  refine lv_goto (tgt := 20) hx hb dX9_isPointed_16 (by decide) ?_
  exact wk_X9_isPointed_L20 hG _ _ hk hn hZ (lv_sub hl [] rfl) hw
def wp_X9_isPointed (D : zD) (post : Int32 → zM → Prop) (a0 : Int32) (M : zM) : Prop :=
    ((a0 = 0 → wp_X9_isPointed_L15 D post M) ∧ (¬ a0 = 0 → ((a0 = (5 : Int32) → wp_X9_isPointed_L15 D post M) ∧ (¬ a0 = (5 : Int32) → ((¬ a0 = (6 : Int32) → wp_X9_isPointed_L20 D post (0 : Int32) M) ∧ (a0 = (6 : Int32) → wp_X9_isPointed_L15 D post M))))))
set_option maxHeartbeats 4000000 in
set_option maxRecDepth 100000 in
theorem w_X9_isPointed {l : Launch} {D : zD} {post : Int32 → zM → Prop} (hlt : l.stackTraces = false) {a0 : Int32} {M : zM} (hw : wp_X9_isPointed D post a0 M) : zMet l D yX9_isPointed (ws_ yX9_isPointed cX9_isPointed 1 (some .boolean)) rm_X9_isPointed 0 0 [.int a0] M zI post (fun _ _ => False) := by
  unfold wp_X9_isPointed at hw
  have hlv : lv_args 0 [.int a0] = [(0, .int a0)] := (zargs1 rfl rfl)
  refine z_ofW hlt (by decide) (Nat.le_trans (zsl1 rfl (Nat.le_refl 0 : (lg_sl []).length ≤ 0)) (Nat.le_of_ble_eq_true rfl)) hlv ?_
  intro p e s m args below meth c ls hG hZ hl
  have hC := hG.1
  have hx := hC.x
  have hb := hC.b
  have hown := hC.o
  have hts := hC.ts
  have hlt := hG.2.2.2.2.2
  obtain ⟨cells, hce⟩ : ∃ z : Nat, z = 0 := ⟨0, rfl⟩
  obtain ⟨slots, hsl⟩ : ∃ z : Nat, z = 0 := ⟨0, rfl⟩
  refine W.cs (cells' := cells) (slots' := slots) hce.symm hsl.symm ?_
  have hk : cells ≤ 0 := Nat.le_of_eq hce
  have hn : slots ≤ 0 := Nat.le_of_eq hsl
  clear hce hsl
  refine lv_iload_n hx hb dX9_isPointed_0 rfl (lv_at hl 0 rfl) ?_
  refine lv_if_eq (tgt := 15) hx hb dX9_isPointed_1 (by decide) (fun c6 => ?_) (fun c6 => ?_)
  · replace hw := hw.1 c6
    exact wk_X9_isPointed_L15 hG _ hk hn hZ (lv_sub hl [] rfl) hw
  · replace hw := hw.2 c6
    refine lv_iload_n hx hb dX9_isPointed_4 rfl (lv_at hl 0 rfl) ?_
    refine lv_iconst (v := 5) hx hb dX9_isPointed_5 (by decide) ?_
    refine lv_icmp_eq (tgt := 15) hx hb dX9_isPointed_6 (by decide) (fun c5 => ?_) (fun c5 => ?_)
    · replace hw := hw.1 c5
      exact wk_X9_isPointed_L15 hG _ hk hn hZ (lv_sub hl [] rfl) hw
    · replace hw := hw.2 c5
      refine lv_iload_n hx hb dX9_isPointed_9 rfl (lv_at hl 0 rfl) ?_
      refine lv_bipush (v := 6) hx hb dX9_isPointed_10 (by decide) ?_
      refine lv_icmp_ne (tgt := 19) hx hb dX9_isPointed_12 (by decide) (fun c4 => ?_) (fun c4 => ?_)
      · replace hw := hw.1 c4
        refine lv_iconst (v := 0) hx hb dX9_isPointed_19 (by decide) ?_
        exact wk_X9_isPointed_L20 hG _ _ hk hn hZ (lv_sub hl [] rfl) hw
      · replace hw := hw.2 c4
        exact wk_X9_isPointed_L15 hG _ hk hn hZ (lv_sub hl [] rfl) hw
abbrev rm_X9_groups : Room := { frames := 2, cells := 0, slots := 0, locals := 84 }
def wp_X9_groups_L81 (D : zD) (post : Unit → zM → Prop) (o : Nat) (k51 : Int32 → Int32 → Int32 → Int32 → Int32 → zM → Prop) (x2 : Int32) (x4 : Int32) (x5 : Int32) (x6 : Int32) (x7 : Int32) (M : zM) : Prop :=
    (zgR M o 8 47 fun g1 => (zgR M o 8 47 fun g2 => ((zd g2 fun b3 => zaI M b3 0 x4 fun v4 => ((zd g1 fun b5 => zsI D M b5 x5 v4 fun M => k51 x2 (x4 + (-1)) (x5 + (-1)) x6 (x7 + 1) M))))))
set_option maxHeartbeats 4000000 in
set_option maxRecDepth 100000 in
theorem wk_X9_groups_L81 {p : Program} {l : Launch} {e : Env} {s : State} {m : MethodId} {args : Array Value} {below : List Frame} {meth : Method} {c : Code} {D : zD} {post : Unit → zM → Prop} {o : Nat} (hG : zGx p l s m args meth c cX9_groups 8 "PluralBranchesModel" D (none) "groups" []) (k51 : Int32 → Int32 → Int32 → Int32 → Int32 → zM → Prop) (hk51 : ∀ {H : Heap} {locs : List Loc} {cells slots : Nat} {ls : Array Slot} (x2 : Int32) (x4 : Int32) (x5 : Int32) (x6 : Int32) (x7 : Int32) (M : zM), cells ≤ 0 → slots ≤ 0 → zS D M H locs → lv_has ls 8 [(0, .ref o), (2, .int x2), (4, .int x4), (5, .int x5), (6, .int x6), (7, .int x7)] → k51 x2 x4 x5 x6 x7 M → W p l e rm_X9_groups s m args below meth c H locs cells slots (vx_MQ below (zQ D zU post) (zX D (fun _ _ => False)) args s 0 0 (zA D)) (F0 m 51 ls [])) : ∀ {H : Heap} {locs : List Loc} {cells slots : Nat} {ls : Array Slot} (x2 : Int32) (x4 : Int32) (x5 : Int32) (x6 : Int32) (x7 : Int32) (M : zM), cells ≤ 0 → slots ≤ 0 → zS D M H locs → lv_has ls 8 [(0, .ref o), (2, .int x2), (4, .int x4), (5, .int x5), (6, .int x6), (7, .int x7)] → wp_X9_groups_L81 D post o k51 x2 x4 x5 x6 x7 M → W p l e rm_X9_groups s m args below meth c H locs cells slots (vx_MQ below (zQ D zU post) (zX D (fun _ _ => False)) args s 0 0 (zA D)) (F0 m 81 ls []) := by
  have hC := hG.1
  have hx := hC.x
  have hb := hC.b
  have hown := hC.o
  have hts := hC.ts
  have hlt := hG.2.2.2.2.2
  intro H locs cells slots ls x2 x4 x5 x6 x7 M hk hn hZ hl hw
  refine lv_aload_n hx hb dX9_groups_81 rfl (lv_at hl 0 rfl) ?_
  obtain ⟨fs0, g6, hM0, hx0, hw⟩ := hw
  refine z_get hC hZ hM0 zc8 47 (by decide) q1767 (fun _ h9 => h9) hx0 dX9_groups_82 ?_
  refine lv_iload hx hb dX9_groups_85 (lv_at hl 3 rfl) ?_
  refine lv_aload_n hx hb dX9_groups_87 rfl (lv_at hl 0 rfl) ?_
  obtain ⟨fs0, g7, hM0, hx0, hw⟩ := hw
  refine z_get hC hZ hM0 zc8 47 (by decide) q1767 (fun _ h9 => h9) hx0 dX9_groups_88 ?_
  refine lv_iload hx hb dX9_groups_91 (lv_at hl 2 rfl) ?_
  obtain ⟨b8, hr0, hw⟩ := hw
  subst hr0
  obtain ⟨n0, f0, hM0, hi0, hw⟩ := hw
  refine z_iald hC hZ hM0 hi0 dX9_groups_93 ?_
  generalize f0 _ = v9 at hw ⊢
  obtain ⟨b10, hr0, hw⟩ := hw
  subst hr0
  obtain ⟨n0, f0, hM0, hb0, hi0, hw⟩ := hw
  refine z_iast hC hZ hM0 hb0 hi0 dX9_groups_94 (fun H locs hZ => ?_)
  generalize zu M _ _ = M at hw hZ
  refine lv_iinc (v := (x5 + (-1))) (lv' := [(5, .int (x5 + (-1))), (0, .ref o), (2, .int x2), (4, .int x4), (6, .int x6), (7, .int x7)]) hx hb dX9_groups_95 hl (k := 3) rfl rfl (by decide) rfl (fun ls hl1 => ?_)
  replace hl := hl1
  clear hl1
  refine lv_iinc (v := (x4 + (-1))) (lv' := [(4, .int (x4 + (-1))), (5, .int (x5 + (-1))), (0, .ref o), (2, .int x2), (6, .int x6), (7, .int x7)]) hx hb dX9_groups_98 hl (k := 3) rfl rfl (by decide) rfl (fun ls hl1 => ?_)
  replace hl := hl1
  clear hl1
  refine lv_iinc (v := (x7 + 1)) (lv' := [(7, .int (x7 + 1)), (4, .int (x4 + (-1))), (5, .int (x5 + (-1))), (0, .ref o), (2, .int x2), (6, .int x6)]) hx hb dX9_groups_101 hl (k := 5) rfl rfl (by decide) rfl (fun ls hl1 => ?_)
  replace hl := hl1
  clear hl1
  refine lv_goto (tgt := 51) hx hb dX9_groups_104 (by decide) ?_
  exact hk51 _ _ _ _ _ _ hk hn hZ (lv_sub hl [3, 4, 1, 2, 5, 0] rfl) hw
def wp_X9_groups_L51 (D : zD) (post : Unit → zM → Prop) (o : Nat) : Nat → Int32 → Int32 → Int32 → Int32 → Int32 → zM → Prop
  | 0 => fun _ _ _ _ _ _ => False
  | f + 1 => fun x2 x4 x5 x6 x7 M =>
    ((x2 ≤ x7 → post () M) ∧ (¬ x2 ≤ x7 → ((x7 ≤ 0 → wp_X9_groups_L81 D post o (wp_X9_groups_L51 D post o f) x2 x4 x5 x6 x7 M) ∧ (¬ x7 ≤ 0 → ((¬ (x7 - x7 / (3 : Int32) * (3 : Int32)) = 0 → wp_X9_groups_L81 D post o (wp_X9_groups_L51 D post o f) x2 x4 x5 x6 x7 M) ∧ ((x7 - x7 / (3 : Int32) * (3 : Int32)) = 0 → (zgR M o 8 47 fun g11 => ((zd g11 fun b12 => zsI D M b12 x5 x6 fun M => wp_X9_groups_L81 D post o (wp_X9_groups_L51 D post o f) x2 x4 (x5 + (-1)) x6 x7 M)))))))))
set_option maxHeartbeats 4000000 in
set_option maxRecDepth 100000 in
theorem wk_X9_groups_L51 {p : Program} {l : Launch} {e : Env} {s : State} {m : MethodId} {args : Array Value} {below : List Frame} {meth : Method} {c : Code} {D : zD} {post : Unit → zM → Prop} {o : Nat} (hG : zGx p l s m args meth c cX9_groups 8 "PluralBranchesModel" D (none) "groups" []) : ∀ (f : Nat), ∀ {H : Heap} {locs : List Loc} {cells slots : Nat} {ls : Array Slot} (x2 : Int32) (x4 : Int32) (x5 : Int32) (x6 : Int32) (x7 : Int32) (M : zM), cells ≤ 0 → slots ≤ 0 → zS D M H locs → lv_has ls 8 [(0, .ref o), (2, .int x2), (4, .int x4), (5, .int x5), (6, .int x6), (7, .int x7)] → wp_X9_groups_L51 D post o f x2 x4 x5 x6 x7 M → W p l e rm_X9_groups s m args below meth c H locs cells slots (vx_MQ below (zQ D zU post) (zX D (fun _ _ => False)) args s 0 0 (zA D)) (F0 m 51 ls []) := by
  have hC := hG.1
  have hx := hC.x
  have hb := hC.b
  have hown := hC.o
  have hts := hC.ts
  have hlt := hG.2.2.2.2.2
  intro f
  induction f with
  | zero =>
    intro H locs cells slots ls x2 x4 x5 x6 x7 M hk hn hZ hl hw
    exact absurd hw (fun h => h)
  | succ f ih =>
    intro H locs cells slots ls x2 x4 x5 x6 x7 M hk hn hZ hl hw
    refine lv_iload hx hb dX9_groups_51 (lv_at hl 5 rfl) ?_
    refine lv_iload_n hx hb dX9_groups_53 rfl (lv_at hl 1 rfl) ?_
    refine lv_icmp_ge (tgt := 107) hx hb dX9_groups_54 (by decide) (fun c20 => ?_) (fun c20 => ?_)
    · replace hw := hw.1 c20
      exact z_vret hG hZ hk hn hw dX9_groups_107
    · replace hw := hw.2 c20
      refine lv_iload hx hb dX9_groups_57 (lv_at hl 5 rfl) ?_
      refine lv_if_le (tgt := 81) hx hb dX9_groups_59 (by decide) (fun c19 => ?_) (fun c19 => ?_)
      · replace hw := hw.1 c19
        exact wk_X9_groups_L81 hG _ (fun {_ _ _ _ _} _z0 _z1 _z2 _z3 _z4 _z5 h1 h2 h3 h4 h5 => ih _z0 _z1 _z2 _z3 _z4 _z5 h1 h2 h3 h4 h5) _ _ _ _ _ _ hk hn hZ (lv_sub hl [0, 1, 2, 3, 4, 5] rfl) hw
      · replace hw := hw.2 c19
        refine lv_iload hx hb dX9_groups_62 (lv_at hl 5 rfl) ?_
        refine lv_iconst (v := 3) hx hb dX9_groups_64 (by decide) ?_
        refine lv_irem hx hb dX9_groups_65 (by decide) ?_
        refine lv_if_ne (tgt := 81) hx hb dX9_groups_66 (by decide) (fun c18 => ?_) (fun c18 => ?_)
        · replace hw := hw.1 c18
          exact wk_X9_groups_L81 hG _ (fun {_ _ _ _ _} _z0 _z1 _z2 _z3 _z4 _z5 h1 h2 h3 h4 h5 => ih _z0 _z1 _z2 _z3 _z4 _z5 h1 h2 h3 h4 h5) _ _ _ _ _ _ hk hn hZ (lv_sub hl [0, 1, 2, 3, 4, 5] rfl) hw
        · replace hw := hw.2 c18
          refine lv_aload_n hx hb dX9_groups_69 rfl (lv_at hl 0 rfl) ?_
          obtain ⟨fs0, g16, hM0, hx0, hw⟩ := hw
          refine z_get hC hZ hM0 zc8 47 (by decide) q1767 (fun _ h9 => h9) hx0 dX9_groups_70 ?_
          refine lv_iload hx hb dX9_groups_73 (lv_at hl 3 rfl) ?_
          refine lv_iload hx hb dX9_groups_75 (lv_at hl 4 rfl) ?_
          obtain ⟨b17, hr0, hw⟩ := hw
          subst hr0
          obtain ⟨n0, f0, hM0, hb0, hi0, hw⟩ := hw
          refine z_iast hC hZ hM0 hb0 hi0 dX9_groups_77 (fun H locs hZ => ?_)
          generalize zu M _ _ = M at hw hZ
          refine lv_iinc (v := (x5 + (-1))) (lv' := [(5, .int (x5 + (-1))), (0, .ref o), (2, .int x2), (4, .int x4), (6, .int x6), (7, .int x7)]) hx hb dX9_groups_78 hl (k := 3) rfl rfl (by decide) rfl (fun ls hl1 => ?_)
          replace hl := hl1
          clear hl1
          exact wk_X9_groups_L81 hG _ (fun {_ _ _ _ _} _z0 _z1 _z2 _z3 _z4 _z5 h1 h2 h3 h4 h5 => ih _z0 _z1 _z2 _z3 _z4 _z5 h1 h2 h3 h4 h5) _ _ _ _ _ _ hk hn hZ (lv_sub hl [1, 2, 3, 0, 4, 5] rfl) hw
def wp_X9_groups_L46 (D : zD) (post : Unit → zM → Prop) (o : Nat) (x2 : Int32) (x4 : Int32) (x5 : Int32) (y0 : Int32) (M : zM) : Prop :=
    (∃ f, wp_X9_groups_L51 D post o f x2 x4 x5 y0 (0 : Int32) M)
set_option maxHeartbeats 4000000 in
set_option maxRecDepth 100000 in
theorem wk_X9_groups_L46 {p : Program} {l : Launch} {e : Env} {s : State} {m : MethodId} {args : Array Value} {below : List Frame} {meth : Method} {c : Code} {D : zD} {post : Unit → zM → Prop} {o : Nat} (hG : zGx p l s m args meth c cX9_groups 8 "PluralBranchesModel" D (none) "groups" []) : ∀ {H : Heap} {locs : List Loc} {cells slots : Nat} {ls : Array Slot} (x2 : Int32) (x4 : Int32) (x5 : Int32) (y0 : Int32) (M : zM), cells ≤ 0 → slots ≤ 0 → zS D M H locs → lv_has ls 8 [(0, .ref o), (2, .int x2), (4, .int x4), (5, .int x5)] → wp_X9_groups_L46 D post o x2 x4 x5 y0 M → W p l e rm_X9_groups s m args below meth c H locs cells slots (vx_MQ below (zQ D zU post) (zX D (fun _ _ => False)) args s 0 0 (zA D)) (F0 m 46 ls [.int y0]) := by
  have hC := hG.1
  have hx := hC.x
  have hb := hC.b
  have hown := hC.o
  have hts := hC.ts
  have hlt := hG.2.2.2.2.2
  intro H locs cells slots ls x2 x4 x5 y0 M hk hn hZ hl hw
  refine lv_istore (i := 6) (lv' := [(6, .int y0), (0, .ref o), (2, .int x2), (4, .int x4), (5, .int x5)]) hx hb dX9_groups_46 hl (by decide) rfl (fun ls hl1 => ?_)
  replace hl := hl1
  clear hl1
  refine lv_iconst (v := 0) hx hb dX9_groups_48 (by decide) ?_
  refine lv_istore (i := 7) (lv' := [(7, .int (0 : Int32)), (6, .int y0), (0, .ref o), (2, .int x2), (4, .int x4), (5, .int x5)]) hx hb dX9_groups_49 hl (by decide) rfl (fun ls hl1 => ?_)
  replace hl := hl1
  clear hl1
  obtain ⟨f1, hw⟩ := hw
  exact wk_X9_groups_L51 hG f1 _ _ _ _ _ _ hk hn hZ (lv_sub hl [2, 3, 4, 5, 1, 0] rfl) hw
def wp_X9_groups (D : zD) (post : Unit → zM → Prop) (o : Nat) (a0 : Int32) (a1 : Int32) (M : zM) : Prop :=
    (zgI M o 8 48 fun g21 => (zp D M o 8 48 (.int (g21 + ((a1 - (1 : Int32)) / (3 : Int32)))) fun M => (zgI M o 8 49 fun g22 => (wp_X9_isPointed D (fun r23 M => ((r23 = 0 → wp_X9_groups_L46 D post o a1 ((a0 + a1) - (1 : Int32)) (((a0 + a1) - (1 : Int32)) + ((a1 - (1 : Int32)) / (3 : Int32))) (32 : Int32) M) ∧ (¬ r23 = 0 → wp_X9_groups_L46 D post o a1 ((a0 + a1) - (1 : Int32)) (((a0 + a1) - (1 : Int32)) + ((a1 - (1 : Int32)) / (3 : Int32))) (44 : Int32) M))) g22 M))))
set_option maxHeartbeats 4000000 in
set_option maxRecDepth 100000 in
theorem w_X9_groups {l : Launch} {D : zD} {post : Unit → zM → Prop} (hlt : l.stackTraces = false) {o : Nat} {a0 : Int32} {a1 : Int32} {M : zM} (hw : wp_X9_groups D post o a0 a1 M) : zMet l D yX9_groups (ws_ yX9_groups cX9_groups 8 (none)) rm_X9_groups 0 0 [.ref o, .int a0, .int a1] M zU post (fun _ _ => False) := by
  unfold wp_X9_groups at hw
  have hlv : lv_args 0 [.ref o, .int a0, .int a1] = [(0, .ref o), (1, .int a0), (2, .int a1)] := (zargs1 rfl (zargs1 rfl (zargs1 rfl rfl)))
  refine z_ofW hlt (by decide) (Nat.le_trans (zsl1 rfl (zsl1 rfl (zsl1 rfl (Nat.le_refl 0 : (lg_sl []).length ≤ 0)))) (Nat.le_of_ble_eq_true rfl)) hlv ?_
  intro p e s m args below meth c ls hG hZ hl
  have hC := hG.1
  have hx := hC.x
  have hb := hC.b
  have hown := hC.o
  have hts := hC.ts
  have hlt := hG.2.2.2.2.2
  obtain ⟨cells, hce⟩ : ∃ z : Nat, z = 0 := ⟨0, rfl⟩
  obtain ⟨slots, hsl⟩ : ∃ z : Nat, z = 0 := ⟨0, rfl⟩
  refine W.cs (cells' := cells) (slots' := slots) hce.symm hsl.symm ?_
  have hk : cells ≤ 0 := Nat.le_of_eq hce
  have hn : slots ≤ 0 := Nat.le_of_eq hsl
  clear hce hsl
  refine lv_iload_n hx hb dX9_groups_0 rfl (lv_at hl 2 rfl) ?_
  refine lv_iconst (v := 1) hx hb dX9_groups_1 (by decide) ?_
  refine lv_isub hx hb dX9_groups_2 ?_
  refine lv_iconst (v := 3) hx hb dX9_groups_3 (by decide) ?_
  refine lv_idiv hx hb dX9_groups_4 (by decide) ?_
  refine lv_istore_n (i := 3) (lv' := [(3, .int ((a1 - (1 : Int32)) / (3 : Int32))), (0, .ref o), (1, .int a0), (2, .int a1)]) hx hb dX9_groups_5 rfl hl (by decide) rfl (fun ls hl1 => ?_)
  replace hl := hl1
  clear hl1
  refine lv_iload_n hx hb dX9_groups_6 rfl (lv_at hl 2 rfl) ?_
  refine lv_iload_n hx hb dX9_groups_7 rfl (lv_at hl 3 rfl) ?_
  refine lv_iadd hx hb dX9_groups_8 ?_
  refine lv_iconst (v := 1) hx hb dX9_groups_9 (by decide) ?_
  refine lv_isub hx hb dX9_groups_10 ?_
  refine lv_istore (i := 4) (lv' := [(4, .int ((a0 + a1) - (1 : Int32))), (3, .int ((a1 - (1 : Int32)) / (3 : Int32))), (0, .ref o), (1, .int a0), (2, .int a1)]) hx hb dX9_groups_11 hl (by decide) rfl (fun ls hl1 => ?_)
  replace hl := hl1
  clear hl1
  refine lv_iload hx hb dX9_groups_13 (lv_at hl 0 rfl) ?_
  refine lv_iload_n hx hb dX9_groups_15 rfl (lv_at hl 1 rfl) ?_
  refine lv_iadd hx hb dX9_groups_16 ?_
  refine lv_istore (i := 5) (lv' := [(5, .int (((a0 + a1) - (1 : Int32)) + ((a1 - (1 : Int32)) / (3 : Int32)))), (4, .int ((a0 + a1) - (1 : Int32))), (3, .int ((a1 - (1 : Int32)) / (3 : Int32))), (0, .ref o), (1, .int a0), (2, .int a1)]) hx hb dX9_groups_17 hl (by decide) rfl (fun ls hl1 => ?_)
  replace hl := hl1
  clear hl1
  refine lv_aload_n hx hb dX9_groups_19 rfl (lv_at hl 3 rfl) ?_
  refine lv_dup hx hb dX9_groups_20 rfl ?_
  obtain ⟨fs0, g28, hM0, hx0, hw⟩ := hw
  refine z_get hC hZ hM0 zc8 48 (by decide) q1768 (fun _ h9 => h9) hx0 dX9_groups_21 ?_
  refine lv_iload_n hx hb dX9_groups_24 rfl (lv_at hl 2 rfl) ?_
  refine lv_iadd hx hb dX9_groups_25 ?_
  obtain ⟨fs0, hM0, hb0, hk0, hw⟩ := hw
  refine z_put hC hZ hM0 hb0 zc8 48 (by decide) q1768 (fun _ h9 => h9) (by decide) rfl rfl hk0 dX9_groups_26 (fun H locs hZ => ?_)
  generalize zu M _ _ = M at hw hZ
  refine lv_aload_n hx hb dX9_groups_29 rfl (lv_at hl 3 rfl) ?_
  obtain ⟨fs0, g29, hM0, hx0, hw⟩ := hw
  refine z_get hC hZ hM0 zc8 49 (by decide) q1769 (fun _ h9 => h9) hx0 dX9_groups_30 ?_
  refine z_callI hZ (vx_runS (As := [.int g29]) (rest := []) hC.fix (w_X9_isPointed hlt hw) (va_cwS 1 hts (lw_S q2150 q2151 q83 q2152) rfl rfl rfl dd_X9_isPointed ⟨Nat.le_of_ble_eq_true rfl, Nat.le_of_ble_eq_true rfl⟩) (z_preS hC hZ) rfl rfl hl.1 rfl (lv_room (Nat.zero_le _)) dX9_groups_33 ⟨hk, hn⟩) (fun r30 M H locs hw1 hZ => ?_) (fun q M H locs ci fs E T9 N9 hw hZ hc1 hM1 hb1 => False.elim hw)
  replace hw := hw1
  clear hw1
  refine W.cs (cells' := cells) (slots' := slots) rfl rfl ?_
  refine lv_if_eq (tgt := 44) hx hb dX9_groups_36 (by decide) (fun c33 => ?_) (fun c33 => ?_)
  · replace hw := hw.1 c33
    refine lv_bipush (v := 32) hx hb dX9_groups_44 (by decide) ?_
    exact wk_X9_groups_L46 hG _ _ _ _ _ hk hn hZ (lv_sub hl [3, 5, 1, 0] rfl) hw
  · replace hw := hw.2 c33
    refine lv_bipush (v := 44) hx hb dX9_groups_39 (by decide) ?_
    refine lv_goto (tgt := 46) hx hb dX9_groups_41 (by decide) ?_
    exact wk_X9_groups_L46 hG _ _ _ _ _ hk hn hZ (lv_sub hl [3, 5, 1, 0] rfl) hw
abbrev rm_X9_grow : Room := { frames := 3, cells := 0, slots := 0, locals := 109 }
def wp_X9_grow_L17 (D : zD) (post : Int64 → zM → Prop) (o : Nat) (M : zM) : Prop :=
    post (-9223372036854775808 : Int64) M
set_option maxHeartbeats 4000000 in
set_option maxRecDepth 100000 in
theorem wk_X9_grow_L17 {p : Program} {l : Launch} {e : Env} {s : State} {m : MethodId} {args : Array Value} {below : List Frame} {meth : Method} {c : Code} {D : zD} {post : Int64 → zM → Prop} {o : Nat} (hG : zGx p l s m args meth c cX9_grow 5 "PluralBranchesModel" D (some .long) "grow" []) : ∀ {H : Heap} {locs : List Loc} {cells slots : Nat} {ls : Array Slot} (M : zM), cells ≤ 0 → slots ≤ 0 → zS D M H locs → lv_has ls 5 [] → wp_X9_grow_L17 D post o M → W p l e rm_X9_grow s m args below meth c H locs cells slots (vx_MQ below (zQ D zL post) (zX D (fun _ _ => False)) args s 0 0 (zA D)) (F0 m 17 ls []) := by
  have hC := hG.1
  have hx := hC.x
  have hb := hC.b
  have hown := hC.o
  have hts := hC.ts
  have hlt := hG.2.2.2.2.2
  intro H locs cells slots ls M hk hn hZ hl hw
  refine lv_ldc2 hx hb hown (hts _ q1905) dX9_grow_17 ?_
  exact z_lret hG hZ hk hn hw dX9_grow_20
def wp_X9_grow (D : zD) (post : Int64 → zM → Prop) (o : Nat) (a0 : Int32) (a1 : Int32) (M : zM) : Prop :=
    (wp_X9_isArgument D (fun r1 M => ((r1 = 0 → wp_X9_grow_L17 D post o M) ∧ (¬ r1 = 0 → (zgR M o 8 41 fun g4 => ((zd g4 fun b5 => zaI M b5 0 a0 fun v6 => ((v6 = (1 : Int32) → (zgR M o 8 42 fun g7 => ((zd g7 fun b8 => zaI M b8 0 a0 fun v9 => (wp_X9_isInt D (fun r10 M => ((¬ r10 = 0 → (zgR M o 8 42 fun g13 => ((zd g13 fun b14 => zsI D M b14 a0 (((v9.toInt64) * (a1.toInt64)).toInt32) fun M => post ((v9.toInt64) * (a1.toInt64)) M)))) ∧ (r10 = 0 → post (-9223372036854775808 : Int64) M))) ((v9.toInt64) * (a1.toInt64)) M))))) ∧ (¬ v6 = (1 : Int32) → wp_X9_grow_L17 D post o M)))))))) a0 M)
set_option maxHeartbeats 4000000 in
set_option maxRecDepth 100000 in
theorem w_X9_grow {l : Launch} {D : zD} {post : Int64 → zM → Prop} (hlt : l.stackTraces = false) {o : Nat} {a0 : Int32} {a1 : Int32} {M : zM} (hw : wp_X9_grow D post o a0 a1 M) : zMet l D yX9_grow (ws_ yX9_grow cX9_grow 5 (some .long)) rm_X9_grow 0 0 [.ref o, .int a0, .int a1] M zL post (fun _ _ => False) := by
  unfold wp_X9_grow at hw
  have hlv : lv_args 0 [.ref o, .int a0, .int a1] = [(0, .ref o), (1, .int a0), (2, .int a1)] := (zargs1 rfl (zargs1 rfl (zargs1 rfl rfl)))
  refine z_ofW hlt (by decide) (Nat.le_trans (zsl1 rfl (zsl1 rfl (zsl1 rfl (Nat.le_refl 0 : (lg_sl []).length ≤ 0)))) (Nat.le_of_ble_eq_true rfl)) hlv ?_
  intro p e s m args below meth c ls hG hZ hl
  have hC := hG.1
  have hx := hC.x
  have hb := hC.b
  have hown := hC.o
  have hts := hC.ts
  have hlt := hG.2.2.2.2.2
  obtain ⟨cells, hce⟩ : ∃ z : Nat, z = 0 := ⟨0, rfl⟩
  obtain ⟨slots, hsl⟩ : ∃ z : Nat, z = 0 := ⟨0, rfl⟩
  refine W.cs (cells' := cells) (slots' := slots) hce.symm hsl.symm ?_
  have hk : cells ≤ 0 := Nat.le_of_eq hce
  have hn : slots ≤ 0 := Nat.le_of_eq hsl
  clear hce hsl
  refine lv_iload_n hx hb dX9_grow_0 rfl (lv_at hl 1 rfl) ?_
  refine z_callI hZ (vx_runS (As := [.int a0]) (rest := []) hC.fix (w_X9_isArgument hlt hw) (va_cwS 1 hts (lw_S q2030 q2031 q83 q2032) rfl rfl rfl dd_X9_isArgument ⟨Nat.le_of_ble_eq_true rfl, Nat.le_of_ble_eq_true rfl⟩) (z_preS hC hZ) rfl rfl hl.1 rfl (lv_room (Nat.zero_le _)) dX9_grow_1 ⟨hk, hn⟩) (fun r18 M H locs hw1 hZ => ?_) (fun q M H locs ci fs E T9 N9 hw hZ hc1 hM1 hb1 => False.elim hw)
  replace hw := hw1
  clear hw1
  refine W.cs (cells' := cells) (slots' := slots) rfl rfl ?_
  refine lv_if_eq (tgt := 17) hx hb dX9_grow_4 (by decide) (fun c34 => ?_) (fun c34 => ?_)
  · replace hw := hw.1 c34
    exact wk_X9_grow_L17 hG _ hk hn hZ (lv_sub hl [] rfl) hw
  · replace hw := hw.2 c34
    refine lv_aload_n hx hb dX9_grow_7 rfl (lv_at hl 0 rfl) ?_
    obtain ⟨fs0, g21, hM0, hx0, hw⟩ := hw
    refine z_get hC hZ hM0 zc8 41 (by decide) q1761 (fun _ h9 => h9) hx0 dX9_grow_8 ?_
    refine lv_iload_n hx hb dX9_grow_11 rfl (lv_at hl 1 rfl) ?_
    obtain ⟨b22, hr0, hw⟩ := hw
    subst hr0
    obtain ⟨n0, f0, hM0, hi0, hw⟩ := hw
    refine z_iald hC hZ hM0 hi0 dX9_grow_12 ?_
    generalize f0 _ = v23 at hw ⊢
    refine lv_iconst (v := 1) hx hb dX9_grow_13 (by decide) ?_
    refine lv_icmp_eq (tgt := 21) hx hb dX9_grow_14 (by decide) (fun c33 => ?_) (fun c33 => ?_)
    · replace hw := hw.1 c33
      refine lv_aload_n hx hb dX9_grow_21 rfl (lv_at hl 0 rfl) ?_
      obtain ⟨fs0, g24, hM0, hx0, hw⟩ := hw
      refine z_get hC hZ hM0 zc8 42 (by decide) q1762 (fun _ h9 => h9) hx0 dX9_grow_22 ?_
      refine lv_iload_n hx hb dX9_grow_25 rfl (lv_at hl 1 rfl) ?_
      obtain ⟨b25, hr0, hw⟩ := hw
      subst hr0
      obtain ⟨n0, f0, hM0, hi0, hw⟩ := hw
      refine z_iald hC hZ hM0 hi0 dX9_grow_26 ?_
      generalize f0 _ = v26 at hw ⊢
      refine lv_i2l hx hb dX9_grow_27 rfl ?_
      refine lv_iload_n hx hb dX9_grow_28 rfl (lv_at hl 2 rfl) ?_
      refine lv_i2l hx hb dX9_grow_29 rfl ?_
      refine lv_lmul hx hb dX9_grow_30 ?_
      refine lv_lstore_n (i := 3) (lv' := [(3, .long ((v26.toInt64) * (a1.toInt64))), (0, .ref o), (1, .int a0), (2, .int a1)]) hx hb dX9_grow_31 rfl hl (by decide) rfl (fun ls hl1 => ?_)
      replace hl := hl1
      clear hl1
      refine lv_lload_n hx hb dX9_grow_32 rfl (lv_at hl 0 rfl) ?_
      refine z_callI hZ (vx_runS (As := [.long ((v26.toInt64) * (a1.toInt64))]) (rest := []) hC.fix (w_X9_isInt hlt hw) (va_cwS 1 hts (lw_S q2110 q2111 q83 q2112) rfl rfl rfl dd_X9_isInt ⟨Nat.le_of_ble_eq_true rfl, Nat.le_of_ble_eq_true rfl⟩) (z_preS hC hZ) rfl rfl hl.1 rfl (lv_room (Nat.zero_le _)) dX9_grow_33 ⟨hk, hn⟩) (fun r27 M H locs hw1 hZ => ?_) (fun q M H locs ci fs E T9 N9 hw hZ hc1 hM1 hb1 => False.elim hw)
      replace hw := hw1
      clear hw1
      refine W.cs (cells' := cells) (slots' := slots) rfl rfl ?_
      refine lv_if_ne (tgt := 43) hx hb dX9_grow_36 (by decide) (fun c32 => ?_) (fun c32 => ?_)
      · replace hw := hw.1 c32
        refine lv_aload_n hx hb dX9_grow_43 rfl (lv_at hl 1 rfl) ?_
        obtain ⟨fs0, g30, hM0, hx0, hw⟩ := hw
        refine z_get hC hZ hM0 zc8 42 (by decide) q1762 (fun _ h9 => h9) hx0 dX9_grow_44 ?_
        refine lv_iload_n hx hb dX9_grow_47 rfl (lv_at hl 2 rfl) ?_
        refine lv_lload_n hx hb dX9_grow_48 rfl (lv_at hl 0 rfl) ?_
        refine lv_l2i hx hb dX9_grow_49 rfl ?_
        obtain ⟨b31, hr0, hw⟩ := hw
        subst hr0
        obtain ⟨n0, f0, hM0, hb0, hi0, hw⟩ := hw
        refine z_iast hC hZ hM0 hb0 hi0 dX9_grow_50 (fun H locs hZ => ?_)
        generalize zu M _ _ = M at hw hZ
        refine lv_lload_n hx hb dX9_grow_51 rfl (lv_at hl 0 rfl) ?_
        exact z_lret hG hZ hk hn hw dX9_grow_52
      · replace hw := hw.2 c32
        refine lv_ldc2 hx hb hown (hts _ q1905) dX9_grow_39 ?_
        exact z_lret hG hZ hk hn hw dX9_grow_42
    · replace hw := hw.2 c33
      exact wk_X9_grow_L17 hG _ hk hn hZ (lv_sub hl [] rfl) hw
abbrev rm_X9_held : Room := { frames := 3, cells := 0, slots := 0, locals := 109 }
def wp_X9_held_L19 (D : zD) (post : Int64 → zM → Prop) (o : Nat) (M : zM) : Prop :=
    post (-9223372036854775808 : Int64) M
set_option maxHeartbeats 4000000 in
set_option maxRecDepth 100000 in
theorem wk_X9_held_L19 {p : Program} {l : Launch} {e : Env} {s : State} {m : MethodId} {args : Array Value} {below : List Frame} {meth : Method} {c : Code} {D : zD} {post : Int64 → zM → Prop} {o : Nat} (hG : zGx p l s m args meth c cX9_held 3 "PluralBranchesModel" D (some .long) "held" []) : ∀ {H : Heap} {locs : List Loc} {cells slots : Nat} {ls : Array Slot} (M : zM), cells ≤ 0 → slots ≤ 0 → zS D M H locs → lv_has ls 3 [] → wp_X9_held_L19 D post o M → W p l e rm_X9_held s m args below meth c H locs cells slots (vx_MQ below (zQ D zL post) (zX D (fun _ _ => False)) args s 0 0 (zA D)) (F0 m 19 ls []) := by
  have hC := hG.1
  have hx := hC.x
  have hb := hC.b
  have hown := hC.o
  have hts := hC.ts
  have hlt := hG.2.2.2.2.2
  intro H locs cells slots ls M hk hn hZ hl hw
  refine lv_ldc2 hx hb hown (hts _ q1905) dX9_held_19 ?_
  exact z_lret hG hZ hk hn hw dX9_held_22
def wp_X9_held_L118 (D : zD) (post : Int64 → zM → Prop) (o : Nat) (y0 : Int64) (M : zM) : Prop :=
    post y0 M
set_option maxHeartbeats 4000000 in
set_option maxRecDepth 100000 in
theorem wk_X9_held_L118 {p : Program} {l : Launch} {e : Env} {s : State} {m : MethodId} {args : Array Value} {below : List Frame} {meth : Method} {c : Code} {D : zD} {post : Int64 → zM → Prop} {o : Nat} (hG : zGx p l s m args meth c cX9_held 3 "PluralBranchesModel" D (some .long) "held" []) : ∀ {H : Heap} {locs : List Loc} {cells slots : Nat} {ls : Array Slot} (y0 : Int64) (M : zM), cells ≤ 0 → slots ≤ 0 → zS D M H locs → lv_has ls 3 [] → wp_X9_held_L118 D post o y0 M → W p l e rm_X9_held s m args below meth c H locs cells slots (vx_MQ below (zQ D zL post) (zX D (fun _ _ => False)) args s 0 0 (zA D)) (F0 m 118 ls [.long y0]) := by
  have hC := hG.1
  have hx := hC.x
  have hb := hC.b
  have hown := hC.o
  have hts := hC.ts
  have hlt := hG.2.2.2.2.2
  intro H locs cells slots ls y0 M hk hn hZ hl hw
  exact z_lret hG hZ hk hn hw dX9_held_118
def wp_X9_held_L115 (D : zD) (post : Int64 → zM → Prop) (o : Nat) (M : zM) : Prop :=
    wp_X9_held_L118 D post o (-9223372036854775808 : Int64) M
set_option maxHeartbeats 4000000 in
set_option maxRecDepth 100000 in
theorem wk_X9_held_L115 {p : Program} {l : Launch} {e : Env} {s : State} {m : MethodId} {args : Array Value} {below : List Frame} {meth : Method} {c : Code} {D : zD} {post : Int64 → zM → Prop} {o : Nat} (hG : zGx p l s m args meth c cX9_held 3 "PluralBranchesModel" D (some .long) "held" []) : ∀ {H : Heap} {locs : List Loc} {cells slots : Nat} {ls : Array Slot} (M : zM), cells ≤ 0 → slots ≤ 0 → zS D M H locs → lv_has ls 3 [] → wp_X9_held_L115 D post o M → W p l e rm_X9_held s m args below meth c H locs cells slots (vx_MQ below (zQ D zL post) (zX D (fun _ _ => False)) args s 0 0 (zA D)) (F0 m 115 ls []) := by
  have hC := hG.1
  have hx := hC.x
  have hb := hC.b
  have hown := hC.o
  have hts := hC.ts
  have hlt := hG.2.2.2.2.2
  intro H locs cells slots ls M hk hn hZ hl hw
  refine lv_ldc2 hx hb hown (hts _ q1905) dX9_held_115 ?_
  exact wk_X9_held_L118 hG _ _ hk hn hZ (lv_sub hl [] rfl) hw
def wp_X9_held_L75 (D : zD) (post : Int64 → zM → Prop) (o : Nat) (y0 : Int64) (M : zM) : Prop :=
    post y0 M
set_option maxHeartbeats 4000000 in
set_option maxRecDepth 100000 in
theorem wk_X9_held_L75 {p : Program} {l : Launch} {e : Env} {s : State} {m : MethodId} {args : Array Value} {below : List Frame} {meth : Method} {c : Code} {D : zD} {post : Int64 → zM → Prop} {o : Nat} (hG : zGx p l s m args meth c cX9_held 3 "PluralBranchesModel" D (some .long) "held" []) : ∀ {H : Heap} {locs : List Loc} {cells slots : Nat} {ls : Array Slot} (y0 : Int64) (M : zM), cells ≤ 0 → slots ≤ 0 → zS D M H locs → lv_has ls 3 [] → wp_X9_held_L75 D post o y0 M → W p l e rm_X9_held s m args below meth c H locs cells slots (vx_MQ below (zQ D zL post) (zX D (fun _ _ => False)) args s 0 0 (zA D)) (F0 m 75 ls [.long y0]) := by
  have hC := hG.1
  have hx := hC.x
  have hb := hC.b
  have hown := hC.o
  have hts := hC.ts
  have hlt := hG.2.2.2.2.2
  intro H locs cells slots ls y0 M hk hn hZ hl hw
  exact z_lret hG hZ hk hn hw dX9_held_75
def wp_X9_held (D : zD) (post : Int64 → zM → Prop) (o : Nat) (a0 : Int32) (a1 : Int32) (M : zM) : Prop :=
    (wp_X9_isArgument D (fun r1 M => ((r1 = 0 → wp_X9_held_L19 D post o M) ∧ (¬ r1 = 0 → (wp_X9_in D (fun r4 M => ((¬ r4 = 0 → ((¬ a1 = 0 → (zgR M o 8 41 fun g7 => ((zd g7 fun b8 => zaI M b8 0 a0 fun v9 => ((¬ v9 = 0 → (((3 : Int32) ≤ a1 → (zgR M o 8 41 fun g10 => ((zd g10 fun b11 => zaI M b11 0 a0 fun v12 => ((¬ v12 = (3 : Int32) → wp_X9_held_L115 D post o M) ∧ (v12 = (3 : Int32) → (zgR M o 8 42 fun g13 => ((zd g13 fun b14 => zaI M b14 0 a0 fun v15 => ((v15 ≤ (a1 - (3 : Int32)) → wp_X9_held_L115 D post o M) ∧ (¬ v15 ≤ (a1 - (3 : Int32)) → (zgR M o 8 44 fun g16 => ((zd g16 fun b17 => zaI M b17 0 ((((6 : Int32) * a0) + a1) - (3 : Int32)) fun v18 => wp_X9_held_L118 D post o (v18.toInt64) M)))))))))))))) ∧ (¬ (3 : Int32) ≤ a1 → ((¬ a1 = (1 : Int32) → (zgR M o 8 43 fun g21 => ((zd g21 fun b22 => zaI M b22 0 a0 fun v23 => wp_X9_held_L75 D post o (v23.toInt64) M)))) ∧ (a1 = (1 : Int32) → (zgR M o 8 42 fun g24 => ((zd g24 fun b25 => zaI M b25 0 a0 fun v26 => wp_X9_held_L75 D post o (v26.toInt64) M)))))))) ∧ (v9 = 0 → post (-9223372036854775808 : Int64) M)))))) ∧ (a1 = 0 → (zgR M o 8 41 fun g30 => ((zd g30 fun b31 => zaI M b31 0 a0 fun v32 => post (v32.toInt64) M)))))) ∧ (r4 = 0 → wp_X9_held_L19 D post o M))) (a1.toInt64) (0 : Int64) (8 : Int64) M)))) a0 M)
set_option maxHeartbeats 4000000 in
set_option maxRecDepth 100000 in
theorem w_X9_held {l : Launch} {D : zD} {post : Int64 → zM → Prop} (hlt : l.stackTraces = false) {o : Nat} {a0 : Int32} {a1 : Int32} {M : zM} (hw : wp_X9_held D post o a0 a1 M) : zMet l D yX9_held (ws_ yX9_held cX9_held 3 (some .long)) rm_X9_held 0 0 [.ref o, .int a0, .int a1] M zL post (fun _ _ => False) := by
  unfold wp_X9_held at hw
  have hlv : lv_args 0 [.ref o, .int a0, .int a1] = [(0, .ref o), (1, .int a0), (2, .int a1)] := (zargs1 rfl (zargs1 rfl (zargs1 rfl rfl)))
  refine z_ofW hlt (by decide) (Nat.le_trans (zsl1 rfl (zsl1 rfl (zsl1 rfl (Nat.le_refl 0 : (lg_sl []).length ≤ 0)))) (Nat.le_of_ble_eq_true rfl)) hlv ?_
  intro p e s m args below meth c ls hG hZ hl
  have hC := hG.1
  have hx := hC.x
  have hb := hC.b
  have hown := hC.o
  have hts := hC.ts
  have hlt := hG.2.2.2.2.2
  obtain ⟨cells, hce⟩ : ∃ z : Nat, z = 0 := ⟨0, rfl⟩
  obtain ⟨slots, hsl⟩ : ∃ z : Nat, z = 0 := ⟨0, rfl⟩
  refine W.cs (cells' := cells) (slots' := slots) hce.symm hsl.symm ?_
  have hk : cells ≤ 0 := Nat.le_of_eq hce
  have hn : slots ≤ 0 := Nat.le_of_eq hsl
  clear hce hsl
  refine lv_iload_n hx hb dX9_held_0 rfl (lv_at hl 1 rfl) ?_
  refine z_callI hZ (vx_runS (As := [.int a0]) (rest := []) hC.fix (w_X9_isArgument hlt hw) (va_cwS 1 hts (lw_S q2030 q2031 q83 q2032) rfl rfl rfl dd_X9_isArgument ⟨Nat.le_of_ble_eq_true rfl, Nat.le_of_ble_eq_true rfl⟩) (z_preS hC hZ) rfl rfl hl.1 rfl (lv_room (Nat.zero_le _)) dX9_held_1 ⟨hk, hn⟩) (fun r36 M H locs hw1 hZ => ?_) (fun q M H locs ci fs E T9 N9 hw hZ hc1 hM1 hb1 => False.elim hw)
  replace hw := hw1
  clear hw1
  refine W.cs (cells' := cells) (slots' := slots) rfl rfl ?_
  refine lv_if_eq (tgt := 19) hx hb dX9_held_4 (by decide) (fun c70 => ?_) (fun c70 => ?_)
  · replace hw := hw.1 c70
    exact wk_X9_held_L19 hG _ hk hn hZ (lv_sub hl [] rfl) hw
  · replace hw := hw.2 c70
    refine lv_iload_n hx hb dX9_held_7 rfl (lv_at hl 2 rfl) ?_
    refine lv_i2l hx hb dX9_held_8 rfl ?_
    refine lv_lconst (v := 0) hx hb dX9_held_9 (by decide) ?_
    refine lv_ldc2 hx hb hown (hts _ q2105) dX9_held_10 ?_
    refine z_callI hZ (vx_runS (As := [.long (a1.toInt64), .long (0 : Int64), .long (8 : Int64)]) (rest := []) hC.fix (w_X9_in hlt hw) (va_cwS 3 hts (lw_S q1894 q1895 q83 q1896) rfl rfl rfl dd_X9_in ⟨Nat.le_of_ble_eq_true rfl, Nat.le_of_ble_eq_true rfl⟩) (z_preS hC hZ) rfl rfl hl.1 rfl (lv_room (Nat.zero_le _)) dX9_held_13 ⟨hk, hn⟩) (fun r39 M H locs hw1 hZ => ?_) (fun q M H locs ci fs E T9 N9 hw hZ hc1 hM1 hb1 => False.elim hw)
    replace hw := hw1
    clear hw1
    refine W.cs (cells' := cells) (slots' := slots) rfl rfl ?_
    refine lv_if_ne (tgt := 23) hx hb dX9_held_16 (by decide) (fun c69 => ?_) (fun c69 => ?_)
    · replace hw := hw.1 c69
      refine lv_iload_n hx hb dX9_held_23 rfl (lv_at hl 2 rfl) ?_
      refine lv_if_ne (tgt := 35) hx hb dX9_held_24 (by decide) (fun c68 => ?_) (fun c68 => ?_)
      · replace hw := hw.1 c68
        refine lv_aload_n hx hb dX9_held_35 rfl (lv_at hl 0 rfl) ?_
        obtain ⟨fs0, g42, hM0, hx0, hw⟩ := hw
        refine z_get hC hZ hM0 zc8 41 (by decide) q1761 (fun _ h9 => h9) hx0 dX9_held_36 ?_
        refine lv_iload_n hx hb dX9_held_39 rfl (lv_at hl 1 rfl) ?_
        obtain ⟨b43, hr0, hw⟩ := hw
        subst hr0
        obtain ⟨n0, f0, hM0, hi0, hw⟩ := hw
        refine z_iald hC hZ hM0 hi0 dX9_held_40 ?_
        generalize f0 _ = v44 at hw ⊢
        refine lv_if_ne (tgt := 48) hx hb dX9_held_41 (by decide) (fun c64 => ?_) (fun c64 => ?_)
        · replace hw := hw.1 c64
          refine lv_iload_n hx hb dX9_held_48 rfl (lv_at hl 2 rfl) ?_
          refine lv_iconst (v := 3) hx hb dX9_held_49 (by decide) ?_
          refine lv_icmp_ge (tgt := 76) hx hb dX9_held_50 (by decide) (fun c63 => ?_) (fun c63 => ?_)
          · replace hw := hw.1 c63
            refine lv_aload_n hx hb dX9_held_76 rfl (lv_at hl 0 rfl) ?_
            obtain ⟨fs0, g45, hM0, hx0, hw⟩ := hw
            refine z_get hC hZ hM0 zc8 41 (by decide) q1761 (fun _ h9 => h9) hx0 dX9_held_77 ?_
            refine lv_iload_n hx hb dX9_held_80 rfl (lv_at hl 1 rfl) ?_
            obtain ⟨b46, hr0, hw⟩ := hw
            subst hr0
            obtain ⟨n0, f0, hM0, hi0, hw⟩ := hw
            refine z_iald hC hZ hM0 hi0 dX9_held_81 ?_
            generalize f0 _ = v47 at hw ⊢
            refine lv_iconst (v := 3) hx hb dX9_held_82 (by decide) ?_
            refine lv_icmp_ne (tgt := 115) hx hb dX9_held_83 (by decide) (fun c55 => ?_) (fun c55 => ?_)
            · replace hw := hw.1 c55
              exact wk_X9_held_L115 hG _ hk hn hZ (lv_sub hl [] rfl) hw
            · replace hw := hw.2 c55
              refine lv_iload_n hx hb dX9_held_86 rfl (lv_at hl 2 rfl) ?_
              refine lv_iconst (v := 3) hx hb dX9_held_87 (by decide) ?_
              refine lv_isub hx hb dX9_held_88 ?_
              refine lv_aload_n hx hb dX9_held_89 rfl (lv_at hl 0 rfl) ?_
              obtain ⟨fs0, g48, hM0, hx0, hw⟩ := hw
              refine z_get hC hZ hM0 zc8 42 (by decide) q1762 (fun _ h9 => h9) hx0 dX9_held_90 ?_
              refine lv_iload_n hx hb dX9_held_93 rfl (lv_at hl 1 rfl) ?_
              obtain ⟨b49, hr0, hw⟩ := hw
              subst hr0
              obtain ⟨n0, f0, hM0, hi0, hw⟩ := hw
              refine z_iald hC hZ hM0 hi0 dX9_held_94 ?_
              generalize f0 _ = v50 at hw ⊢
              refine lv_icmp_ge (tgt := 115) hx hb dX9_held_95 (by decide) (fun c54 => ?_) (fun c54 => ?_)
              · replace hw := hw.1 c54
                exact wk_X9_held_L115 hG _ hk hn hZ (lv_sub hl [] rfl) hw
              · replace hw := hw.2 c54
                refine lv_aload_n hx hb dX9_held_98 rfl (lv_at hl 0 rfl) ?_
                obtain ⟨fs0, g51, hM0, hx0, hw⟩ := hw
                refine z_get hC hZ hM0 zc8 44 (by decide) q1764 (fun _ h9 => h9) hx0 dX9_held_99 ?_
                refine lv_bipush (v := 6) hx hb dX9_held_102 (by decide) ?_
                refine lv_iload_n hx hb dX9_held_104 rfl (lv_at hl 1 rfl) ?_
                refine lv_imul hx hb dX9_held_105 ?_
                refine lv_iload_n hx hb dX9_held_106 rfl (lv_at hl 2 rfl) ?_
                refine lv_iadd hx hb dX9_held_107 ?_
                refine lv_iconst (v := 3) hx hb dX9_held_108 (by decide) ?_
                refine lv_isub hx hb dX9_held_109 ?_
                obtain ⟨b52, hr0, hw⟩ := hw
                subst hr0
                obtain ⟨n0, f0, hM0, hi0, hw⟩ := hw
                refine z_iald hC hZ hM0 hi0 dX9_held_110 ?_
                generalize f0 _ = v53 at hw ⊢
                refine lv_i2l hx hb dX9_held_111 rfl ?_
                refine lv_goto (tgt := 118) hx hb dX9_held_112 (by decide) ?_
                exact wk_X9_held_L118 hG _ _ hk hn hZ (lv_sub hl [] rfl) hw
          · replace hw := hw.2 c63
            refine lv_iload_n hx hb dX9_held_53 rfl (lv_at hl 2 rfl) ?_
            refine lv_iconst (v := 1) hx hb dX9_held_54 (by decide) ?_
            refine lv_icmp_ne (tgt := 68) hx hb dX9_held_55 (by decide) (fun c62 => ?_) (fun c62 => ?_)
            · replace hw := hw.1 c62
              refine lv_aload_n hx hb dX9_held_68 rfl (lv_at hl 0 rfl) ?_
              obtain ⟨fs0, g56, hM0, hx0, hw⟩ := hw
              refine z_get hC hZ hM0 zc8 43 (by decide) q1763 (fun _ h9 => h9) hx0 dX9_held_69 ?_
              refine lv_iload_n hx hb dX9_held_72 rfl (lv_at hl 1 rfl) ?_
              obtain ⟨b57, hr0, hw⟩ := hw
              subst hr0
              obtain ⟨n0, f0, hM0, hi0, hw⟩ := hw
              refine z_iald hC hZ hM0 hi0 dX9_held_73 ?_
              generalize f0 _ = v58 at hw ⊢
              refine lv_i2l hx hb dX9_held_74 rfl ?_
              exact wk_X9_held_L75 hG _ _ hk hn hZ (lv_sub hl [] rfl) hw
            · replace hw := hw.2 c62
              refine lv_aload_n hx hb dX9_held_58 rfl (lv_at hl 0 rfl) ?_
              obtain ⟨fs0, g59, hM0, hx0, hw⟩ := hw
              refine z_get hC hZ hM0 zc8 42 (by decide) q1762 (fun _ h9 => h9) hx0 dX9_held_59 ?_
              refine lv_iload_n hx hb dX9_held_62 rfl (lv_at hl 1 rfl) ?_
              obtain ⟨b60, hr0, hw⟩ := hw
              subst hr0
              obtain ⟨n0, f0, hM0, hi0, hw⟩ := hw
              refine z_iald hC hZ hM0 hi0 dX9_held_63 ?_
              generalize f0 _ = v61 at hw ⊢
              refine lv_i2l hx hb dX9_held_64 rfl ?_
              refine lv_goto (tgt := 75) hx hb dX9_held_65 (by decide) ?_
              exact wk_X9_held_L75 hG _ _ hk hn hZ (lv_sub hl [] rfl) hw
        · replace hw := hw.2 c64
          refine lv_ldc2 hx hb hown (hts _ q1905) dX9_held_44 ?_
          exact z_lret hG hZ hk hn hw dX9_held_47
      · replace hw := hw.2 c68
        refine lv_aload_n hx hb dX9_held_27 rfl (lv_at hl 0 rfl) ?_
        obtain ⟨fs0, g65, hM0, hx0, hw⟩ := hw
        refine z_get hC hZ hM0 zc8 41 (by decide) q1761 (fun _ h9 => h9) hx0 dX9_held_28 ?_
        refine lv_iload_n hx hb dX9_held_31 rfl (lv_at hl 1 rfl) ?_
        obtain ⟨b66, hr0, hw⟩ := hw
        subst hr0
        obtain ⟨n0, f0, hM0, hi0, hw⟩ := hw
        refine z_iald hC hZ hM0 hi0 dX9_held_32 ?_
        generalize f0 _ = v67 at hw ⊢
        refine lv_i2l hx hb dX9_held_33 rfl ?_
        exact z_lret hG hZ hk hn hw dX9_held_34
    · replace hw := hw.2 c69
      exact wk_X9_held_L19 hG _ hk hn hZ (lv_sub hl [] rfl) hw
abbrev rm_X9_here : Room := { frames := 1, cells := 0, slots := 0, locals := 64 }
def wp_X9_here_L24 (D : zD) (post : Int32 → zM → Prop) (o : Nat) (y0 : Int32) (M : zM) : Prop :=
    post y0 M
set_option maxHeartbeats 4000000 in
set_option maxRecDepth 100000 in
theorem wk_X9_here_L24 {p : Program} {l : Launch} {e : Env} {s : State} {m : MethodId} {args : Array Value} {below : List Frame} {meth : Method} {c : Code} {D : zD} {post : Int32 → zM → Prop} {o : Nat} (hG : zGx p l s m args meth c cX9_here 1 "PluralBranchesModel" D (some .int) "here" []) : ∀ {H : Heap} {locs : List Loc} {cells slots : Nat} {ls : Array Slot} (y0 : Int32) (M : zM), cells ≤ 0 → slots ≤ 0 → zS D M H locs → lv_has ls 1 [] → wp_X9_here_L24 D post o y0 M → W p l e rm_X9_here s m args below meth c H locs cells slots (vx_MQ below (zQ D zI post) (zX D (fun _ _ => False)) args s 0 0 (zA D)) (F0 m 24 ls [.int y0]) := by
  have hC := hG.1
  have hx := hC.x
  have hb := hC.b
  have hown := hC.o
  have hts := hC.ts
  have hlt := hG.2.2.2.2.2
  intro H locs cells slots ls y0 M hk hn hZ hl hw
  exact z_iret hG hZ hk hn hw dX9_here_24
def wp_X9_here (D : zD) (post : Int32 → zM → Prop) (o : Nat) (M : zM) : Prop :=
    (zgI M o 8 23 fun g1 => (zgI M o 8 8 fun g2 => ((g2 ≤ g1 → wp_X9_here_L24 D post o (-1 : Int32) M) ∧ (¬ g2 ≤ g1 → (zgR M o 8 7 fun g3 => (zgI M o 8 23 fun g4 => ((zd g3 fun b5 => zaI M b5 0 g4 fun v6 => wp_X9_here_L24 D post o v6 M))))))))
set_option maxHeartbeats 4000000 in
set_option maxRecDepth 100000 in
theorem w_X9_here {l : Launch} {D : zD} {post : Int32 → zM → Prop} (hlt : l.stackTraces = false) {o : Nat} {M : zM} (hw : wp_X9_here D post o M) : zMet l D yX9_here (ws_ yX9_here cX9_here 1 (some .int)) rm_X9_here 0 0 [.ref o] M zI post (fun _ _ => False) := by
  unfold wp_X9_here at hw
  have hlv : lv_args 0 [.ref o] = [(0, .ref o)] := (zargs1 rfl rfl)
  refine z_ofW hlt (by decide) (Nat.le_trans (zsl1 rfl (Nat.le_refl 0 : (lg_sl []).length ≤ 0)) (Nat.le_of_ble_eq_true rfl)) hlv ?_
  intro p e s m args below meth c ls hG hZ hl
  have hC := hG.1
  have hx := hC.x
  have hb := hC.b
  have hown := hC.o
  have hts := hC.ts
  have hlt := hG.2.2.2.2.2
  obtain ⟨cells, hce⟩ : ∃ z : Nat, z = 0 := ⟨0, rfl⟩
  obtain ⟨slots, hsl⟩ : ∃ z : Nat, z = 0 := ⟨0, rfl⟩
  refine W.cs (cells' := cells) (slots' := slots) hce.symm hsl.symm ?_
  have hk : cells ≤ 0 := Nat.le_of_eq hce
  have hn : slots ≤ 0 := Nat.le_of_eq hsl
  clear hce hsl
  refine lv_aload_n hx hb dX9_here_0 rfl (lv_at hl 0 rfl) ?_
  obtain ⟨fs0, g8, hM0, hx0, hw⟩ := hw
  refine z_get hC hZ hM0 zc8 23 (by decide) q1743 (fun _ h9 => h9) hx0 dX9_here_1 ?_
  refine lv_aload_n hx hb dX9_here_4 rfl (lv_at hl 0 rfl) ?_
  obtain ⟨fs0, g9, hM0, hx0, hw⟩ := hw
  refine z_get hC hZ hM0 zc8 8 (by decide) q1728 (fun _ h9 => h9) hx0 dX9_here_5 ?_
  refine lv_icmp_ge (tgt := 23) hx hb dX9_here_8 (by decide) (fun c14 => ?_) (fun c14 => ?_)
  · replace hw := hw.1 c14
    refine lv_iconst (v := (-1)) hx hb dX9_here_23 (by decide) ?_
    exact wk_X9_here_L24 hG _ _ hk hn hZ (lv_sub hl [] rfl) hw
  · replace hw := hw.2 c14
    refine lv_aload_n hx hb dX9_here_11 rfl (lv_at hl 0 rfl) ?_
    obtain ⟨fs0, g10, hM0, hx0, hw⟩ := hw
    refine z_get hC hZ hM0 zc8 7 (by decide) q1727 (fun _ h9 => h9) hx0 dX9_here_12 ?_
    refine lv_aload_n hx hb dX9_here_15 rfl (lv_at hl 0 rfl) ?_
    obtain ⟨fs0, g11, hM0, hx0, hw⟩ := hw
    refine z_get hC hZ hM0 zc8 23 (by decide) q1743 (fun _ h9 => h9) hx0 dX9_here_16 ?_
    obtain ⟨b12, hr0, hw⟩ := hw
    subst hr0
    obtain ⟨n0, f0, hM0, hi0, hw⟩ := hw
    refine z_iald hC hZ hM0 hi0 dX9_here_19 ?_
    generalize f0 _ = v13 at hw ⊢
    refine lv_goto (tgt := 24) hx hb dX9_here_20 (by decide) ?_
    exact wk_X9_here_L24 hG _ _ hk hn hZ (lv_sub hl [] rfl) hw
abbrev rm_X9_isSign : Room := { frames := 2, cells := 0, slots := 0, locals := 89 }
def wp_X9_isSign_L37 (D : zD) (post : Int32 → zM → Prop) (y0 : Int32) (M : zM) : Prop :=
    (narrow .boolean (.int y0) = .int y0 ∧ post y0 M)
set_option maxHeartbeats 4000000 in
set_option maxRecDepth 100000 in
theorem wk_X9_isSign_L37 {p : Program} {l : Launch} {e : Env} {s : State} {m : MethodId} {args : Array Value} {below : List Frame} {meth : Method} {c : Code} {D : zD} {post : Int32 → zM → Prop} (hG : zGx p l s m args meth c cX9_isSign 1 "PluralBranchesModel" D (some .boolean) "isSign" []) : ∀ {H : Heap} {locs : List Loc} {cells slots : Nat} {ls : Array Slot} (y0 : Int32) (M : zM), cells ≤ 0 → slots ≤ 0 → zS D M H locs → lv_has ls 1 [] → wp_X9_isSign_L37 D post y0 M → W p l e rm_X9_isSign s m args below meth c H locs cells slots (vx_MQ below (zQ D zI post) (zX D (fun _ _ => False)) args s 0 0 (zA D)) (F0 m 37 ls [.int y0]) := by
  have hC := hG.1
  have hx := hC.x
  have hb := hC.b
  have hown := hC.o
  have hts := hC.ts
  have hlt := hG.2.2.2.2.2
  intro H locs cells slots ls y0 M hk hn hZ hl hw
  exact z_zret hG hZ hk hn hw.1 hw.2 dX9_isSign_37
def wp_X9_isSign_L32 (D : zD) (post : Int32 → zM → Prop) (M : zM) : Prop :=
    wp_X9_isSign_L37 D post (1 : Int32) M
set_option maxHeartbeats 4000000 in
set_option maxRecDepth 100000 in
theorem wk_X9_isSign_L32 {p : Program} {l : Launch} {e : Env} {s : State} {m : MethodId} {args : Array Value} {below : List Frame} {meth : Method} {c : Code} {D : zD} {post : Int32 → zM → Prop} (hG : zGx p l s m args meth c cX9_isSign 1 "PluralBranchesModel" D (some .boolean) "isSign" []) : ∀ {H : Heap} {locs : List Loc} {cells slots : Nat} {ls : Array Slot} (M : zM), cells ≤ 0 → slots ≤ 0 → zS D M H locs → lv_has ls 1 [] → wp_X9_isSign_L32 D post M → W p l e rm_X9_isSign s m args below meth c H locs cells slots (vx_MQ below (zQ D zI post) (zX D (fun _ _ => False)) args s 0 0 (zA D)) (F0 m 32 ls []) := by
  have hC := hG.1
  have hx := hC.x
  have hb := hC.b
  have hown := hC.o
  have hts := hC.ts
  have hlt := hG.2.2.2.2.2
  intro H locs cells slots ls M hk hn hZ hl hw
  refine lv_iconst (v := 1) hx hb dX9_isSign_32 (by decide) ?_
  refine lv_goto (tgt := 37) hx hb dX9_isSign_33 (by decide) ?_
  exact wk_X9_isSign_L37 hG _ _ hk hn hZ (lv_sub hl [] rfl) hw
def wp_X9_isSign (D : zD) (post : Int32 → zM → Prop) (a0 : Int32) (M : zM) : Prop :=
    (wp_X9_in D (fun r1 M => ((¬ r1 = 0 → wp_X9_isSign_L32 D post M) ∧ (r1 = 0 → ((a0 = (32 : Int32) → wp_X9_isSign_L32 D post M) ∧ (¬ a0 = (32 : Int32) → ((a0 = (44 : Int32) → wp_X9_isSign_L32 D post M) ∧ (¬ a0 = (44 : Int32) → ((¬ a0 = (46 : Int32) → wp_X9_isSign_L37 D post (0 : Int32) M) ∧ (a0 = (46 : Int32) → wp_X9_isSign_L32 D post M))))))))) (a0.toInt64) (97 : Int64) (122 : Int64) M)
set_option maxHeartbeats 4000000 in
set_option maxRecDepth 100000 in
theorem w_X9_isSign {l : Launch} {D : zD} {post : Int32 → zM → Prop} (hlt : l.stackTraces = false) {a0 : Int32} {M : zM} (hw : wp_X9_isSign D post a0 M) : zMet l D yX9_isSign (ws_ yX9_isSign cX9_isSign 1 (some .boolean)) rm_X9_isSign 0 0 [.int a0] M zI post (fun _ _ => False) := by
  unfold wp_X9_isSign at hw
  have hlv : lv_args 0 [.int a0] = [(0, .int a0)] := (zargs1 rfl rfl)
  refine z_ofW hlt (by decide) (Nat.le_trans (zsl1 rfl (Nat.le_refl 0 : (lg_sl []).length ≤ 0)) (Nat.le_of_ble_eq_true rfl)) hlv ?_
  intro p e s m args below meth c ls hG hZ hl
  have hC := hG.1
  have hx := hC.x
  have hb := hC.b
  have hown := hC.o
  have hts := hC.ts
  have hlt := hG.2.2.2.2.2
  obtain ⟨cells, hce⟩ : ∃ z : Nat, z = 0 := ⟨0, rfl⟩
  obtain ⟨slots, hsl⟩ : ∃ z : Nat, z = 0 := ⟨0, rfl⟩
  refine W.cs (cells' := cells) (slots' := slots) hce.symm hsl.symm ?_
  have hk : cells ≤ 0 := Nat.le_of_eq hce
  have hn : slots ≤ 0 := Nat.le_of_eq hsl
  clear hce hsl
  refine lv_iload_n hx hb dX9_isSign_0 rfl (lv_at hl 0 rfl) ?_
  refine lv_i2l hx hb dX9_isSign_1 rfl ?_
  refine lv_ldc2 hx hb hown (hts _ q1977) dX9_isSign_2 ?_
  refine lv_ldc2 hx hb hown (hts _ q1978) dX9_isSign_5 ?_
  refine z_callI hZ (vx_runS (As := [.long (a0.toInt64), .long (97 : Int64), .long (122 : Int64)]) (rest := []) hC.fix (w_X9_in hlt hw) (va_cwS 3 hts (lw_S q1894 q1895 q83 q1896) rfl rfl rfl dd_X9_in ⟨Nat.le_of_ble_eq_true rfl, Nat.le_of_ble_eq_true rfl⟩) (z_preS hC hZ) rfl rfl hl.1 rfl (lv_room (Nat.zero_le _)) dX9_isSign_8 ⟨hk, hn⟩) (fun r8 M H locs hw1 hZ => ?_) (fun q M H locs ci fs E T9 N9 hw hZ hc1 hM1 hb1 => False.elim hw)
  replace hw := hw1
  clear hw1
  refine W.cs (cells' := cells) (slots' := slots) rfl rfl ?_
  refine lv_if_ne (tgt := 32) hx hb dX9_isSign_11 (by decide) (fun c14 => ?_) (fun c14 => ?_)
  · replace hw := hw.1 c14
    exact wk_X9_isSign_L32 hG _ hk hn hZ (lv_sub hl [] rfl) hw
  · replace hw := hw.2 c14
    refine lv_iload_n hx hb dX9_isSign_14 rfl (lv_at hl 0 rfl) ?_
    refine lv_bipush (v := 32) hx hb dX9_isSign_15 (by decide) ?_
    refine lv_icmp_eq (tgt := 32) hx hb dX9_isSign_17 (by decide) (fun c13 => ?_) (fun c13 => ?_)
    · replace hw := hw.1 c13
      exact wk_X9_isSign_L32 hG _ hk hn hZ (lv_sub hl [] rfl) hw
    · replace hw := hw.2 c13
      refine lv_iload_n hx hb dX9_isSign_20 rfl (lv_at hl 0 rfl) ?_
      refine lv_bipush (v := 44) hx hb dX9_isSign_21 (by decide) ?_
      refine lv_icmp_eq (tgt := 32) hx hb dX9_isSign_23 (by decide) (fun c12 => ?_) (fun c12 => ?_)
      · replace hw := hw.1 c12
        exact wk_X9_isSign_L32 hG _ hk hn hZ (lv_sub hl [] rfl) hw
      · replace hw := hw.2 c12
        refine lv_iload_n hx hb dX9_isSign_26 rfl (lv_at hl 0 rfl) ?_
        refine lv_bipush (v := 46) hx hb dX9_isSign_27 (by decide) ?_
        refine lv_icmp_ne (tgt := 36) hx hb dX9_isSign_29 (by decide) (fun c11 => ?_) (fun c11 => ?_)
        · replace hw := hw.1 c11
          refine lv_iconst (v := 0) hx hb dX9_isSign_36 (by decide) ?_
          exact wk_X9_isSign_L37 hG _ _ hk hn hZ (lv_sub hl [] rfl) hw
        · replace hw := hw.2 c11
          exact wk_X9_isSign_L32 hG _ hk hn hZ (lv_sub hl [] rfl) hw
abbrev rm_X9_isWrong : Room := { frames := 1, cells := 0, slots := 0, locals := 64 }
def wp_X9_isWrong_L24 (D : zD) (post : Unit → zM → Prop) (o : Nat) (y0 : Option Nat) (y1 : Int32) (M : zM) : Prop :=
    ((zd y0 fun b1 => zp D M b1 8 28 (.int y1) fun M => post () M))
set_option maxHeartbeats 4000000 in
set_option maxRecDepth 100000 in
theorem wk_X9_isWrong_L24 {p : Program} {l : Launch} {e : Env} {s : State} {m : MethodId} {args : Array Value} {below : List Frame} {meth : Method} {c : Code} {D : zD} {post : Unit → zM → Prop} {o : Nat} (hG : zGx p l s m args meth c cX9_isWrong 2 "PluralBranchesModel" D (none) "isWrong" []) : ∀ {H : Heap} {locs : List Loc} {cells slots : Nat} {ls : Array Slot} (y0 : Option Nat) (y1 : Int32) (M : zM), cells ≤ 0 → slots ≤ 0 → zS D M H locs → lv_has ls 2 [] → wp_X9_isWrong_L24 D post o y0 y1 M → W p l e rm_X9_isWrong s m args below meth c H locs cells slots (vx_MQ below (zQ D zU post) (zX D (fun _ _ => False)) args s 0 0 (zA D)) (F0 m 24 ls [.int y1, va_rf y0]) := by
  have hC := hG.1
  have hx := hC.x
  have hb := hC.b
  have hown := hC.o
  have hts := hC.ts
  have hlt := hG.2.2.2.2.2
  intro H locs cells slots ls y0 y1 M hk hn hZ hl hw
  obtain ⟨b3, hr0, hw⟩ := hw
  subst hr0
  obtain ⟨fs0, hM0, hb0, hk0, hw⟩ := hw
  refine z_put hC hZ hM0 hb0 zc8 28 (by decide) q1748 (fun _ h9 => h9) (by decide) rfl rfl hk0 dX9_isWrong_24 (fun H locs hZ => ?_)
  generalize zu M _ _ = M at hw hZ
  exact z_vret hG hZ hk hn hw dX9_isWrong_27
def wp_X9_isWrong_L16 (D : zD) (post : Unit → zM → Prop) (o : Nat) (x1 : Int32) (y0 : Option Nat) (M : zM) : Prop :=
    wp_X9_isWrong_L24 D post o y0 x1 M
set_option maxHeartbeats 4000000 in
set_option maxRecDepth 100000 in
theorem wk_X9_isWrong_L16 {p : Program} {l : Launch} {e : Env} {s : State} {m : MethodId} {args : Array Value} {below : List Frame} {meth : Method} {c : Code} {D : zD} {post : Unit → zM → Prop} {o : Nat} (hG : zGx p l s m args meth c cX9_isWrong 2 "PluralBranchesModel" D (none) "isWrong" []) : ∀ {H : Heap} {locs : List Loc} {cells slots : Nat} {ls : Array Slot} (x1 : Int32) (y0 : Option Nat) (M : zM), cells ≤ 0 → slots ≤ 0 → zS D M H locs → lv_has ls 2 [(1, .int x1)] → wp_X9_isWrong_L16 D post o x1 y0 M → W p l e rm_X9_isWrong s m args below meth c H locs cells slots (vx_MQ below (zQ D zU post) (zX D (fun _ _ => False)) args s 0 0 (zA D)) (F0 m 16 ls [va_rf y0]) := by
  have hC := hG.1
  have hx := hC.x
  have hb := hC.b
  have hown := hC.o
  have hts := hC.ts
  have hlt := hG.2.2.2.2.2
  intro H locs cells slots ls x1 y0 M hk hn hZ hl hw
  refine lv_iload_n hx hb dX9_isWrong_16 rfl (lv_at hl 0 rfl) ?_
  refine lv_goto (tgt := 24) hx hb dX9_isWrong_17 (by decide) ?_
  exact wk_X9_isWrong_L24 hG _ _ _ hk hn hZ (lv_sub hl [] rfl) hw
def wp_X9_isWrong (D : zD) (post : Unit → zM → Prop) (o : Nat) (a0 : Int32) (M : zM) : Prop :=
    (zgI M o 8 28 fun g5 => ((g5 < 0 → wp_X9_isWrong_L16 D post o a0 (some o) M) ∧ (¬ g5 < 0 → (zgI M o 8 28 fun g6 => ((g6 ≤ a0 → (zgI M o 8 28 fun g7 => wp_X9_isWrong_L24 D post o (some o) g7 M)) ∧ (¬ g6 ≤ a0 → wp_X9_isWrong_L16 D post o a0 (some o) M))))))
set_option maxHeartbeats 4000000 in
set_option maxRecDepth 100000 in
theorem w_X9_isWrong {l : Launch} {D : zD} {post : Unit → zM → Prop} (hlt : l.stackTraces = false) {o : Nat} {a0 : Int32} {M : zM} (hw : wp_X9_isWrong D post o a0 M) : zMet l D yX9_isWrong (ws_ yX9_isWrong cX9_isWrong 2 (none)) rm_X9_isWrong 0 0 [.ref o, .int a0] M zU post (fun _ _ => False) := by
  unfold wp_X9_isWrong at hw
  have hlv : lv_args 0 [.ref o, .int a0] = [(0, .ref o), (1, .int a0)] := (zargs1 rfl (zargs1 rfl rfl))
  refine z_ofW hlt (by decide) (Nat.le_trans (zsl1 rfl (zsl1 rfl (Nat.le_refl 0 : (lg_sl []).length ≤ 0))) (Nat.le_of_ble_eq_true rfl)) hlv ?_
  intro p e s m args below meth c ls hG hZ hl
  have hC := hG.1
  have hx := hC.x
  have hb := hC.b
  have hown := hC.o
  have hts := hC.ts
  have hlt := hG.2.2.2.2.2
  obtain ⟨cells, hce⟩ : ∃ z : Nat, z = 0 := ⟨0, rfl⟩
  obtain ⟨slots, hsl⟩ : ∃ z : Nat, z = 0 := ⟨0, rfl⟩
  refine W.cs (cells' := cells) (slots' := slots) hce.symm hsl.symm ?_
  have hk : cells ≤ 0 := Nat.le_of_eq hce
  have hn : slots ≤ 0 := Nat.le_of_eq hsl
  clear hce hsl
  refine lv_aload_n hx hb dX9_isWrong_0 rfl (lv_at hl 0 rfl) ?_
  refine lv_aload_n hx hb dX9_isWrong_1 rfl (lv_at hl 0 rfl) ?_
  obtain ⟨fs0, g10, hM0, hx0, hw⟩ := hw
  refine z_get hC hZ hM0 zc8 28 (by decide) q1748 (fun _ h9 => h9) hx0 dX9_isWrong_2 ?_
  refine lv_if_lt (tgt := 16) hx hb dX9_isWrong_5 (by decide) (fun c14 => ?_) (fun c14 => ?_)
  · replace hw := hw.1 c14
    exact wk_X9_isWrong_L16 hG _ _ _ hk hn hZ (lv_sub hl [1] rfl) hw
  · replace hw := hw.2 c14
    refine lv_iload_n hx hb dX9_isWrong_8 rfl (lv_at hl 1 rfl) ?_
    refine lv_aload_n hx hb dX9_isWrong_9 rfl (lv_at hl 0 rfl) ?_
    obtain ⟨fs0, g11, hM0, hx0, hw⟩ := hw
    refine z_get hC hZ hM0 zc8 28 (by decide) q1748 (fun _ h9 => h9) hx0 dX9_isWrong_10 ?_
    refine lv_icmp_ge (tgt := 20) hx hb dX9_isWrong_13 (by decide) (fun c13 => ?_) (fun c13 => ?_)
    · replace hw := hw.1 c13
      refine lv_aload_n hx hb dX9_isWrong_20 rfl (lv_at hl 0 rfl) ?_
      obtain ⟨fs0, g12, hM0, hx0, hw⟩ := hw
      refine z_get hC hZ hM0 zc8 28 (by decide) q1748 (fun _ h9 => h9) hx0 dX9_isWrong_21 ?_
      exact wk_X9_isWrong_L24 hG _ _ _ hk hn hZ (lv_sub hl [] rfl) hw
    · replace hw := hw.2 c13
      exact wk_X9_isWrong_L16 hG _ _ _ hk hn hZ (lv_sub hl [1] rfl) hw
abbrev rm_X9_joinerOfTwo : Room := { frames := 1, cells := 0, slots := 0, locals := 64 }
def wp_X9_joinerOfTwo (D : zD) (post : Option Nat → zM → Prop) (a0 : Int32) (M : zM) : Prop :=
    ((a0 = 1 → post (some (D.2.2.2 (10 + 13))) M) ∧ (a0 = 2 → post (some (D.2.2.2 (10 + 14))) M) ∧ (a0 = 3 → post (some (D.2.2.2 (10 + 15))) M) ∧ (a0 = 4 → post (some (D.2.2.2 (10 + 16))) M) ∧ (a0 = 5 → post (some (D.2.2.2 (10 + 17))) M) ∧ (¬ a0 = 1 ∧ ¬ a0 = 2 ∧ ¬ a0 = 3 ∧ ¬ a0 = 4 ∧ ¬ a0 = 5 → post (some (D.2.2.2 (10 + 18))) M))
set_option maxHeartbeats 4000000 in
set_option maxRecDepth 100000 in
theorem w_X9_joinerOfTwo {l : Launch} {D : zD} {post : Option Nat → zM → Prop} (hlt : l.stackTraces = false) {a0 : Int32} {M : zM} (hw : wp_X9_joinerOfTwo D post a0 M) : zMet l D yX9_joinerOfTwo (ws_ yX9_joinerOfTwo cX9_joinerOfTwo 1 (some (.object "java/lang/String"))) rm_X9_joinerOfTwo 0 0 [.int a0] M zR post (fun _ _ => False) := by
  unfold wp_X9_joinerOfTwo at hw
  have hlv : lv_args 0 [.int a0] = [(0, .int a0)] := (zargs1 rfl rfl)
  refine z_ofW hlt (by decide) (Nat.le_trans (zsl1 rfl (Nat.le_refl 0 : (lg_sl []).length ≤ 0)) (Nat.le_of_ble_eq_true rfl)) hlv ?_
  intro p e s m args below meth c ls hG hZ hl
  have hC := hG.1
  have hx := hC.x
  have hb := hC.b
  have hown := hC.o
  have hts := hC.ts
  have hlt := hG.2.2.2.2.2
  obtain ⟨cells, hce⟩ : ∃ z : Nat, z = 0 := ⟨0, rfl⟩
  obtain ⟨slots, hsl⟩ : ∃ z : Nat, z = 0 := ⟨0, rfl⟩
  refine W.cs (cells' := cells) (slots' := slots) hce.symm hsl.symm ?_
  have hk : cells ≤ 0 := Nat.le_of_eq hce
  have hn : slots ≤ 0 := Nat.le_of_eq hsl
  clear hce hsl
  refine lv_iload_n hx hb dX9_joinerOfTwo_0 rfl (lv_at hl 0 rfl) ?_
  by_cases e6 : a0 = 1
  · replace hw := hw.1 e6
    refine lv_tableIn (tgt := 36) (off := 35) hx hb dX9_joinerOfTwo_1 (by rw [e6]; decide) (by rw [e6]; decide) (by rw [e6]; decide) (by decide) ?_
    refine z_ldcSw (i := 13) hC rfl dX9_joinerOfTwo_36 ?_
    exact z_aret (r := (some (D.2.2.2 (10 + 13)))) hG (Or.inl ⟨_, rfl⟩) hZ hk hn hw dX9_joinerOfTwo_39
  by_cases e7 : a0 = 2
  · replace hw := hw.2.1 e7
    refine lv_tableIn (tgt := 40) (off := 39) hx hb dX9_joinerOfTwo_1 (by rw [e7]; decide) (by rw [e7]; decide) (by rw [e7]; decide) (by decide) ?_
    refine z_ldcSw (i := 14) hC rfl dX9_joinerOfTwo_40 ?_
    exact z_aret (r := (some (D.2.2.2 (10 + 14)))) hG (Or.inl ⟨_, rfl⟩) hZ hk hn hw dX9_joinerOfTwo_43
  by_cases e8 : a0 = 3
  · replace hw := hw.2.2.1 e8
    refine lv_tableIn (tgt := 44) (off := 43) hx hb dX9_joinerOfTwo_1 (by rw [e8]; decide) (by rw [e8]; decide) (by rw [e8]; decide) (by decide) ?_
    refine z_ldcSw (i := 15) hC rfl dX9_joinerOfTwo_44 ?_
    exact z_aret (r := (some (D.2.2.2 (10 + 15)))) hG (Or.inl ⟨_, rfl⟩) hZ hk hn hw dX9_joinerOfTwo_47
  by_cases e9 : a0 = 4
  · replace hw := hw.2.2.2.1 e9
    refine lv_tableIn (tgt := 48) (off := 47) hx hb dX9_joinerOfTwo_1 (by rw [e9]; decide) (by rw [e9]; decide) (by rw [e9]; decide) (by decide) ?_
    refine z_ldcSw (i := 16) hC rfl dX9_joinerOfTwo_48 ?_
    exact z_aret (r := (some (D.2.2.2 (10 + 16)))) hG (Or.inl ⟨_, rfl⟩) hZ hk hn hw dX9_joinerOfTwo_51
  by_cases e10 : a0 = 5
  · replace hw := hw.2.2.2.2.1 e10
    refine lv_tableIn (tgt := 52) (off := 51) hx hb dX9_joinerOfTwo_1 (by rw [e10]; decide) (by rw [e10]; decide) (by rw [e10]; decide) (by decide) ?_
    refine z_ldcSw (i := 17) hC rfl dX9_joinerOfTwo_52 ?_
    exact z_aret (r := (some (D.2.2.2 (10 + 17)))) hG (Or.inl ⟨_, rfl⟩) hZ hk hn hw dX9_joinerOfTwo_55
  replace hw := hw.2.2.2.2.2 ⟨e6, e7, e8, e9, e10⟩
  refine z_tableK (tgt := 56) (S := [1, 2, 3, 4, 5]) hx hb dX9_joinerOfTwo_1 (by decide) (by decide) (by decide) (zal (lv_neT e6 (by decide)) (zal (lv_neT e7 (by decide)) (zal (lv_neT e8 (by decide)) (zal (lv_neT e9 (by decide)) (zal (lv_neT e10 (by decide)) (za0)))))) ?_
  refine z_ldcSw (i := 18) hC rfl dX9_joinerOfTwo_56 ?_
  exact z_aret (r := (some (D.2.2.2 (10 + 18)))) hG (Or.inl ⟨_, rfl⟩) hZ hk hn hw dX9_joinerOfTwo_59
abbrev rm_X9_key : Room := { frames := 3, cells := 0, slots := 0, locals := 111 }
def wp_X9_key_L65 (D : zD) (post : Int32 → zM → Prop) (o : Nat) (y0 : Int32) (M : zM) : Prop :=
    post y0 M
set_option maxHeartbeats 4000000 in
set_option maxRecDepth 100000 in
theorem wk_X9_key_L65 {p : Program} {l : Launch} {e : Env} {s : State} {m : MethodId} {args : Array Value} {below : List Frame} {meth : Method} {c : Code} {D : zD} {post : Int32 → zM → Prop} {o : Nat} (hG : zGx p l s m args meth c cX9_key 5 "PluralBranchesModel" D (some .int) "key" []) : ∀ {H : Heap} {locs : List Loc} {cells slots : Nat} {ls : Array Slot} (y0 : Int32) (M : zM), cells ≤ 0 → slots ≤ 0 → zS D M H locs → lv_has ls 5 [] → wp_X9_key_L65 D post o y0 M → W p l e rm_X9_key s m args below meth c H locs cells slots (vx_MQ below (zQ D zI post) (zX D (fun _ _ => False)) args s 0 0 (zA D)) (F0 m 65 ls [.int y0]) := by
  have hC := hG.1
  have hx := hC.x
  have hb := hC.b
  have hown := hC.o
  have hts := hC.ts
  have hlt := hG.2.2.2.2.2
  intro H locs cells slots ls y0 M hk hn hZ hl hw
  exact z_iret hG hZ hk hn hw dX9_key_65
def wp_X9_key_L46 (D : zD) (post : Int32 → zM → Prop) (o : Nat) (x1 : Int32) (x2 : Int32) (x3 : Int32) (y0 : Int32) (M : zM) : Prop :=
    ((y0 = 0 → wp_X9_key_L65 D post o (-2 : Int32) M) ∧ (¬ y0 = 0 → ((zis M o [8] ∧ wp_X9_keyAt D (fun r1 M => wp_X9_key_L65 D post o r1 M) o x1 x2 x3 M))))
set_option maxHeartbeats 4000000 in
set_option maxRecDepth 100000 in
theorem wk_X9_key_L46 {p : Program} {l : Launch} {e : Env} {s : State} {m : MethodId} {args : Array Value} {below : List Frame} {meth : Method} {c : Code} {D : zD} {post : Int32 → zM → Prop} {o : Nat} (hG : zGx p l s m args meth c cX9_key 5 "PluralBranchesModel" D (some .int) "key" []) : ∀ {H : Heap} {locs : List Loc} {cells slots : Nat} {ls : Array Slot} (x1 : Int32) (x2 : Int32) (x3 : Int32) (y0 : Int32) (M : zM), cells ≤ 0 → slots ≤ 0 → zS D M H locs → lv_has ls 5 [(0, .ref o), (1, .int x1), (2, .int x2), (3, .int x3)] → wp_X9_key_L46 D post o x1 x2 x3 y0 M → W p l e rm_X9_key s m args below meth c H locs cells slots (vx_MQ below (zQ D zI post) (zX D (fun _ _ => False)) args s 0 0 (zA D)) (F0 m 46 ls [.int y0]) := by
  have hC := hG.1
  have hx := hC.x
  have hb := hC.b
  have hown := hC.o
  have hts := hC.ts
  have hlt := hG.2.2.2.2.2
  intro H locs cells slots ls x1 x2 x3 y0 M hk hn hZ hl hw
  refine lv_istore (i := 4) (lv' := [(4, .int y0), (0, .ref o), (1, .int x1), (2, .int x2), (3, .int x3)]) hx hb dX9_key_46 hl (by decide) rfl (fun ls hl1 => ?_)
  replace hl := hl1
  clear hl1
  refine lv_iload hx hb dX9_key_48 (lv_at hl 0 rfl) ?_
  refine lv_if_eq (tgt := 63) hx hb dX9_key_50 (by decide) (fun c8 => ?_) (fun c8 => ?_)
  · replace hw := hw.1 c8
    refine lv_bipush (v := (-2)) hx hb dX9_key_63 (by decide) ?_
    exact wk_X9_key_L65 hG _ _ hk hn hZ (lv_sub hl [] rfl) hw
  · replace hw := hw.2 c8
    refine lv_aload_n hx hb dX9_key_53 rfl (lv_at hl 1 rfl) ?_
    refine lv_iload_n hx hb dX9_key_54 rfl (lv_at hl 2 rfl) ?_
    refine lv_iload_n hx hb dX9_key_55 rfl (lv_at hl 3 rfl) ?_
    refine lv_iload_n hx hb dX9_key_56 rfl (lv_at hl 4 rfl) ?_
    obtain ⟨⟨ci0, fs0, hci0, hM0⟩, hw⟩ := hw
    obtain rfl : ci0 = 8 := List.mem_singleton.mp hci0
    refine z_callI hZ (vx_runV (As := [.int x1, .int x2, .int x3]) (rest := []) hC.fix (w_X9_keyAt hlt hw) (cwV 3 hts (lw_V q2045 q2047 qs43 q83 q2048) rfl rfl rfl ⟨rfl, dd_X9_keyAt⟩ ⟨Nat.le_of_ble_eq_true rfl, Nat.le_of_ble_eq_true rfl⟩) (z_preV hC hZ hM0 zc8) rfl rfl hl.1 rfl (lv_room (Nat.zero_le _)) dX9_key_57 ⟨hk, hn⟩) (fun r5 M H locs hw1 hZ => ?_) (fun q M H locs ci fs E T9 N9 hw hZ hc1 hM1 hb1 => False.elim hw)
    replace hw := hw1
    clear hw1
    refine W.cs (cells' := cells) (slots' := slots) rfl rfl ?_
    refine lv_goto (tgt := 65) hx hb dX9_key_60 (by decide) ?_
    exact wk_X9_key_L65 hG _ _ hk hn hZ (lv_sub hl [] rfl) hw
def wp_X9_key_L45 (D : zD) (post : Int32 → zM → Prop) (o : Nat) (x1 : Int32) (x2 : Int32) (x3 : Int32) (M : zM) : Prop :=
    wp_X9_key_L46 D post o x1 x2 x3 (0 : Int32) M
set_option maxHeartbeats 4000000 in
set_option maxRecDepth 100000 in
theorem wk_X9_key_L45 {p : Program} {l : Launch} {e : Env} {s : State} {m : MethodId} {args : Array Value} {below : List Frame} {meth : Method} {c : Code} {D : zD} {post : Int32 → zM → Prop} {o : Nat} (hG : zGx p l s m args meth c cX9_key 5 "PluralBranchesModel" D (some .int) "key" []) : ∀ {H : Heap} {locs : List Loc} {cells slots : Nat} {ls : Array Slot} (x1 : Int32) (x2 : Int32) (x3 : Int32) (M : zM), cells ≤ 0 → slots ≤ 0 → zS D M H locs → lv_has ls 5 [(0, .ref o), (1, .int x1), (2, .int x2), (3, .int x3)] → wp_X9_key_L45 D post o x1 x2 x3 M → W p l e rm_X9_key s m args below meth c H locs cells slots (vx_MQ below (zQ D zI post) (zX D (fun _ _ => False)) args s 0 0 (zA D)) (F0 m 45 ls []) := by
  have hC := hG.1
  have hx := hC.x
  have hb := hC.b
  have hown := hC.o
  have hts := hC.ts
  have hlt := hG.2.2.2.2.2
  intro H locs cells slots ls x1 x2 x3 M hk hn hZ hl hw
  refine lv_iconst (v := 0) hx hb dX9_key_45 (by decide) ?_
  exact wk_X9_key_L46 hG _ _ _ _ _ hk hn hZ (lv_sub hl [0, 1, 2, 3] rfl) hw
def wp_X9_key (D : zD) (post : Int32 → zM → Prop) (o : Nat) (a0 : Int32) (a1 : Int32) (a2 : Int32) (M : zM) : Prop :=
    (wp_X9_isSlot D (fun r9 M => ((¬ r9 = 0 → ((zis M o [8] ∧ wp_X9_isChoice D (fun r12 M => ((r12 = 0 → wp_X9_key_L45 D post o a0 a1 a2 M) ∧ (¬ r12 = 0 → (zgR M o 8 19 fun g15 => ((zd g15 fun b16 => zaI M b16 0 (((8 : Int32) * a0) + a1) fun v17 => (wp_X9_in D (fun r18 M => ((r18 = 0 → wp_X9_key_L45 D post o a0 a1 a2 M) ∧ (¬ r18 = 0 → wp_X9_key_L46 D post o a0 a1 a2 (1 : Int32) M))) (a2.toInt64) (0 : Int64) ((v17 - (1 : Int32)).toInt64) M))))))) o a0 a1 M))) ∧ (r9 = 0 → post (-1 : Int32) M))) a0 M)
set_option maxHeartbeats 4000000 in
set_option maxRecDepth 100000 in
theorem w_X9_key {l : Launch} {D : zD} {post : Int32 → zM → Prop} (hlt : l.stackTraces = false) {o : Nat} {a0 : Int32} {a1 : Int32} {a2 : Int32} {M : zM} (hw : wp_X9_key D post o a0 a1 a2 M) : zMet l D yX9_key (ws_ yX9_key cX9_key 5 (some .int)) rm_X9_key 0 0 [.ref o, .int a0, .int a1, .int a2] M zI post (fun _ _ => False) := by
  unfold wp_X9_key at hw
  have hlv : lv_args 0 [.ref o, .int a0, .int a1, .int a2] = [(0, .ref o), (1, .int a0), (2, .int a1), (3, .int a2)] := (zargs1 rfl (zargs1 rfl (zargs1 rfl (zargs1 rfl rfl))))
  refine z_ofW hlt (by decide) (Nat.le_trans (zsl1 rfl (zsl1 rfl (zsl1 rfl (zsl1 rfl (Nat.le_refl 0 : (lg_sl []).length ≤ 0))))) (Nat.le_of_ble_eq_true rfl)) hlv ?_
  intro p e s m args below meth c ls hG hZ hl
  have hC := hG.1
  have hx := hC.x
  have hb := hC.b
  have hown := hC.o
  have hts := hC.ts
  have hlt := hG.2.2.2.2.2
  obtain ⟨cells, hce⟩ : ∃ z : Nat, z = 0 := ⟨0, rfl⟩
  obtain ⟨slots, hsl⟩ : ∃ z : Nat, z = 0 := ⟨0, rfl⟩
  refine W.cs (cells' := cells) (slots' := slots) hce.symm hsl.symm ?_
  have hk : cells ≤ 0 := Nat.le_of_eq hce
  have hn : slots ≤ 0 := Nat.le_of_eq hsl
  clear hce hsl
  refine lv_iload_n hx hb dX9_key_0 rfl (lv_at hl 1 rfl) ?_
  refine z_callI hZ (vx_runS (As := [.int a0]) (rest := []) hC.fix (w_X9_isSlot hlt hw) (va_cwS 1 hts (lw_S q1963 q1964 q83 q1965) rfl rfl rfl dd_X9_isSlot ⟨Nat.le_of_ble_eq_true rfl, Nat.le_of_ble_eq_true rfl⟩) (z_preS hC hZ) rfl rfl hl.1 rfl (lv_room (Nat.zero_le _)) dX9_key_1 ⟨hk, hn⟩) (fun r24 M H locs hw1 hZ => ?_) (fun q M H locs ci fs E T9 N9 hw hZ hc1 hM1 hb1 => False.elim hw)
  replace hw := hw1
  clear hw1
  refine W.cs (cells' := cells) (slots' := slots) rfl rfl ?_
  refine lv_if_ne (tgt := 9) hx hb dX9_key_4 (by decide) (fun c38 => ?_) (fun c38 => ?_)
  · replace hw := hw.1 c38
    refine lv_aload_n hx hb dX9_key_9 rfl (lv_at hl 0 rfl) ?_
    refine lv_iload_n hx hb dX9_key_10 rfl (lv_at hl 1 rfl) ?_
    refine lv_iload_n hx hb dX9_key_11 rfl (lv_at hl 2 rfl) ?_
    obtain ⟨⟨ci0, fs0, hci0, hM0⟩, hw⟩ := hw
    obtain rfl : ci0 = 8 := List.mem_singleton.mp hci0
    refine z_callI hZ (vx_runV (As := [.int a0, .int a1]) (rest := []) hC.fix (w_X9_isChoice hlt hw) (cwV 2 hts (lw_V q2037 q2039 qs42 q83 q2040) rfl rfl rfl ⟨rfl, dd_X9_isChoice⟩ ⟨Nat.le_of_ble_eq_true rfl, Nat.le_of_ble_eq_true rfl⟩) (z_preV hC hZ hM0 zc8) rfl rfl hl.1 rfl (lv_room (Nat.zero_le _)) dX9_key_12 ⟨hk, hn⟩) (fun r27 M H locs hw1 hZ => ?_) (fun q M H locs ci fs E T9 N9 hw hZ hc1 hM1 hb1 => False.elim hw)
    replace hw := hw1
    clear hw1
    refine W.cs (cells' := cells) (slots' := slots) rfl rfl ?_
    refine lv_if_eq (tgt := 45) hx hb dX9_key_15 (by decide) (fun c37 => ?_) (fun c37 => ?_)
    · replace hw := hw.1 c37
      exact wk_X9_key_L45 hG _ _ _ _ hk hn hZ (lv_sub hl [0, 1, 2, 3] rfl) hw
    · replace hw := hw.2 c37
      refine lv_iload_n hx hb dX9_key_18 rfl (lv_at hl 3 rfl) ?_
      refine lv_i2l hx hb dX9_key_19 rfl ?_
      refine lv_lconst (v := 0) hx hb dX9_key_20 (by decide) ?_
      refine lv_aload_n hx hb dX9_key_21 rfl (lv_at hl 0 rfl) ?_
      obtain ⟨fs0, g30, hM0, hx0, hw⟩ := hw
      refine z_get hC hZ hM0 zc8 19 (by decide) q1739 (fun _ h9 => h9) hx0 dX9_key_22 ?_
      refine lv_bipush (v := 8) hx hb dX9_key_25 (by decide) ?_
      refine lv_iload_n hx hb dX9_key_27 rfl (lv_at hl 1 rfl) ?_
      refine lv_imul hx hb dX9_key_28 ?_
      refine lv_iload_n hx hb dX9_key_29 rfl (lv_at hl 2 rfl) ?_
      refine lv_iadd hx hb dX9_key_30 ?_
      obtain ⟨b31, hr0, hw⟩ := hw
      subst hr0
      obtain ⟨n0, f0, hM0, hi0, hw⟩ := hw
      refine z_iald hC hZ hM0 hi0 dX9_key_31 ?_
      generalize f0 _ = v32 at hw ⊢
      refine lv_iconst (v := 1) hx hb dX9_key_32 (by decide) ?_
      refine lv_isub hx hb dX9_key_33 ?_
      refine lv_i2l hx hb dX9_key_34 rfl ?_
      refine z_callI hZ (vx_runS (As := [.long (a2.toInt64), .long (0 : Int64), .long ((v32 - (1 : Int32)).toInt64)]) (rest := []) hC.fix (w_X9_in hlt hw) (va_cwS 3 hts (lw_S q1894 q1895 q83 q1896) rfl rfl rfl dd_X9_in ⟨Nat.le_of_ble_eq_true rfl, Nat.le_of_ble_eq_true rfl⟩) (z_preS hC hZ) rfl rfl hl.1 rfl (lv_room (Nat.zero_le _)) dX9_key_35 ⟨hk, hn⟩) (fun r33 M H locs hw1 hZ => ?_) (fun q M H locs ci fs E T9 N9 hw hZ hc1 hM1 hb1 => False.elim hw)
      replace hw := hw1
      clear hw1
      refine W.cs (cells' := cells) (slots' := slots) rfl rfl ?_
      refine lv_if_eq (tgt := 45) hx hb dX9_key_38 (by decide) (fun c36 => ?_) (fun c36 => ?_)
      · replace hw := hw.1 c36
        exact wk_X9_key_L45 hG _ _ _ _ hk hn hZ (lv_sub hl [0, 1, 2, 3] rfl) hw
      · replace hw := hw.2 c36
        refine lv_iconst (v := 1) hx hb dX9_key_41 (by decide) ?_
        refine lv_goto (tgt := 46) hx hb dX9_key_42 (by decide) ?_
        exact wk_X9_key_L46 hG _ _ _ _ _ hk hn hZ (lv_sub hl [0, 1, 2, 3] rfl) hw
  · replace hw := hw.2 c38
    refine lv_iconst (v := (-1)) hx hb dX9_key_7 (by decide) ?_
    exact z_iret hG hZ hk hn hw dX9_key_8
abbrev rm_X9_keyOf : Room := { frames := 1, cells := 0, slots := 0, locals := 64 }
def wp_X9_keyOf_L108 (D : zD) (post : Int32 → zM → Prop) (y0 : Int32) (M : zM) : Prop :=
    post y0 M
set_option maxHeartbeats 4000000 in
set_option maxRecDepth 100000 in
theorem wk_X9_keyOf_L108 {p : Program} {l : Launch} {e : Env} {s : State} {m : MethodId} {args : Array Value} {below : List Frame} {meth : Method} {c : Code} {D : zD} {post : Int32 → zM → Prop} (hG : zGx p l s m args meth c cX9_keyOf 2 "PluralBranchesModel" D (some .int) "keyOf" []) : ∀ {H : Heap} {locs : List Loc} {cells slots : Nat} {ls : Array Slot} (y0 : Int32) (M : zM), cells ≤ 0 → slots ≤ 0 → zS D M H locs → lv_has ls 2 [] → wp_X9_keyOf_L108 D post y0 M → W p l e rm_X9_keyOf s m args below meth c H locs cells slots (vx_MQ below (zQ D zI post) (zX D (fun _ _ => False)) args s 0 0 (zA D)) (F0 m 108 ls [.int y0]) := by
  have hC := hG.1
  have hx := hC.x
  have hb := hC.b
  have hown := hC.o
  have hts := hC.ts
  have hlt := hG.2.2.2.2.2
  intro H locs cells slots ls y0 M hk hn hZ hl hw
  exact z_iret hG hZ hk hn hw dX9_keyOf_108
def wp_X9_keyOf_L66 (D : zD) (post : Int32 → zM → Prop) (y0 : Int32) (M : zM) : Prop :=
    post y0 M
set_option maxHeartbeats 4000000 in
set_option maxRecDepth 100000 in
theorem wk_X9_keyOf_L66 {p : Program} {l : Launch} {e : Env} {s : State} {m : MethodId} {args : Array Value} {below : List Frame} {meth : Method} {c : Code} {D : zD} {post : Int32 → zM → Prop} (hG : zGx p l s m args meth c cX9_keyOf 2 "PluralBranchesModel" D (some .int) "keyOf" []) : ∀ {H : Heap} {locs : List Loc} {cells slots : Nat} {ls : Array Slot} (y0 : Int32) (M : zM), cells ≤ 0 → slots ≤ 0 → zS D M H locs → lv_has ls 2 [] → wp_X9_keyOf_L66 D post y0 M → W p l e rm_X9_keyOf s m args below meth c H locs cells slots (vx_MQ below (zQ D zI post) (zX D (fun _ _ => False)) args s 0 0 (zA D)) (F0 m 66 ls [.int y0]) := by
  have hC := hG.1
  have hx := hC.x
  have hb := hC.b
  have hown := hC.o
  have hts := hC.ts
  have hlt := hG.2.2.2.2.2
  intro H locs cells slots ls y0 M hk hn hZ hl hw
  exact z_iret hG hZ hk hn hw dX9_keyOf_66
def wp_X9_keyOf (D : zD) (post : Int32 → zM → Prop) (a0 : Int32) (a1 : Int32) (M : zM) : Prop :=
    ((¬ a0 = (1 : Int32) → ((¬ a1 = (109 : Int32) → ((¬ a1 = (102 : Int32) → ((¬ a1 = (110 : Int32) → ((¬ a1 = (120 : Int32) → wp_X9_keyOf_L108 D post (-1 : Int32) M) ∧ (a1 = (120 : Int32) → wp_X9_keyOf_L108 D post (3 : Int32) M))) ∧ (a1 = (110 : Int32) → wp_X9_keyOf_L108 D post (2 : Int32) M))) ∧ (a1 = (102 : Int32) → wp_X9_keyOf_L108 D post (1 : Int32) M))) ∧ (a1 = (109 : Int32) → wp_X9_keyOf_L108 D post (0 : Int32) M))) ∧ (a0 = (1 : Int32) → ((¬ a1 = (122 : Int32) → ((¬ a1 = (111 : Int32) → ((¬ a1 = (116 : Int32) → ((¬ a1 = (102 : Int32) → ((¬ a1 = (109 : Int32) → ((¬ a1 = (120 : Int32) → wp_X9_keyOf_L66 D post (-1 : Int32) M) ∧ (a1 = (120 : Int32) → wp_X9_keyOf_L66 D post (5 : Int32) M))) ∧ (a1 = (109 : Int32) → wp_X9_keyOf_L66 D post (4 : Int32) M))) ∧ (a1 = (102 : Int32) → wp_X9_keyOf_L66 D post (3 : Int32) M))) ∧ (a1 = (116 : Int32) → wp_X9_keyOf_L66 D post (2 : Int32) M))) ∧ (a1 = (111 : Int32) → wp_X9_keyOf_L66 D post (1 : Int32) M))) ∧ (a1 = (122 : Int32) → wp_X9_keyOf_L66 D post (0 : Int32) M))))
set_option maxHeartbeats 4000000 in
set_option maxRecDepth 100000 in
theorem w_X9_keyOf {l : Launch} {D : zD} {post : Int32 → zM → Prop} (hlt : l.stackTraces = false) {a0 : Int32} {a1 : Int32} {M : zM} (hw : wp_X9_keyOf D post a0 a1 M) : zMet l D yX9_keyOf (ws_ yX9_keyOf cX9_keyOf 2 (some .int)) rm_X9_keyOf 0 0 [.int a0, .int a1] M zI post (fun _ _ => False) := by
  unfold wp_X9_keyOf at hw
  have hlv : lv_args 0 [.int a0, .int a1] = [(0, .int a0), (1, .int a1)] := (zargs1 rfl (zargs1 rfl rfl))
  refine z_ofW hlt (by decide) (Nat.le_trans (zsl1 rfl (zsl1 rfl (Nat.le_refl 0 : (lg_sl []).length ≤ 0))) (Nat.le_of_ble_eq_true rfl)) hlv ?_
  intro p e s m args below meth c ls hG hZ hl
  have hC := hG.1
  have hx := hC.x
  have hb := hC.b
  have hown := hC.o
  have hts := hC.ts
  have hlt := hG.2.2.2.2.2
  obtain ⟨cells, hce⟩ : ∃ z : Nat, z = 0 := ⟨0, rfl⟩
  obtain ⟨slots, hsl⟩ : ∃ z : Nat, z = 0 := ⟨0, rfl⟩
  refine W.cs (cells' := cells) (slots' := slots) hce.symm hsl.symm ?_
  have hk : cells ≤ 0 := Nat.le_of_eq hce
  have hn : slots ≤ 0 := Nat.le_of_eq hsl
  clear hce hsl
  refine lv_iload_n hx hb dX9_keyOf_0 rfl (lv_at hl 0 rfl) ?_
  refine lv_iconst (v := 1) hx hb dX9_keyOf_1 (by decide) ?_
  refine lv_icmp_ne (tgt := 67) hx hb dX9_keyOf_2 (by decide) (fun c22 => ?_) (fun c22 => ?_)
  · replace hw := hw.1 c22
    refine lv_iload_n hx hb dX9_keyOf_67 rfl (lv_at hl 1 rfl) ?_
    refine lv_bipush (v := 109) hx hb dX9_keyOf_68 (by decide) ?_
    refine lv_icmp_ne (tgt := 77) hx hb dX9_keyOf_70 (by decide) (fun c15 => ?_) (fun c15 => ?_)
    · replace hw := hw.1 c15
      refine lv_iload_n hx hb dX9_keyOf_77 rfl (lv_at hl 1 rfl) ?_
      refine lv_bipush (v := 102) hx hb dX9_keyOf_78 (by decide) ?_
      refine lv_icmp_ne (tgt := 87) hx hb dX9_keyOf_80 (by decide) (fun c14 => ?_) (fun c14 => ?_)
      · replace hw := hw.1 c14
        refine lv_iload_n hx hb dX9_keyOf_87 rfl (lv_at hl 1 rfl) ?_
        refine lv_bipush (v := 110) hx hb dX9_keyOf_88 (by decide) ?_
        refine lv_icmp_ne (tgt := 97) hx hb dX9_keyOf_90 (by decide) (fun c13 => ?_) (fun c13 => ?_)
        · replace hw := hw.1 c13
          refine lv_iload_n hx hb dX9_keyOf_97 rfl (lv_at hl 1 rfl) ?_
          refine lv_bipush (v := 120) hx hb dX9_keyOf_98 (by decide) ?_
          refine lv_icmp_ne (tgt := 107) hx hb dX9_keyOf_100 (by decide) (fun c12 => ?_) (fun c12 => ?_)
          · replace hw := hw.1 c12
            refine lv_iconst (v := (-1)) hx hb dX9_keyOf_107 (by decide) ?_
            exact wk_X9_keyOf_L108 hG _ _ hk hn hZ (lv_sub hl [] rfl) hw
          · replace hw := hw.2 c12
            refine lv_iconst (v := 3) hx hb dX9_keyOf_103 (by decide) ?_
            refine lv_goto (tgt := 108) hx hb dX9_keyOf_104 (by decide) ?_
            exact wk_X9_keyOf_L108 hG _ _ hk hn hZ (lv_sub hl [] rfl) hw
        · replace hw := hw.2 c13
          refine lv_iconst (v := 2) hx hb dX9_keyOf_93 (by decide) ?_
          refine lv_goto (tgt := 108) hx hb dX9_keyOf_94 (by decide) ?_
          exact wk_X9_keyOf_L108 hG _ _ hk hn hZ (lv_sub hl [] rfl) hw
      · replace hw := hw.2 c14
        refine lv_iconst (v := 1) hx hb dX9_keyOf_83 (by decide) ?_
        refine lv_goto (tgt := 108) hx hb dX9_keyOf_84 (by decide) ?_
        exact wk_X9_keyOf_L108 hG _ _ hk hn hZ (lv_sub hl [] rfl) hw
    · replace hw := hw.2 c15
      refine lv_iconst (v := 0) hx hb dX9_keyOf_73 (by decide) ?_
      refine lv_goto (tgt := 108) hx hb dX9_keyOf_74 (by decide) ?_
      exact wk_X9_keyOf_L108 hG _ _ hk hn hZ (lv_sub hl [] rfl) hw
  · replace hw := hw.2 c22
    refine lv_iload_n hx hb dX9_keyOf_5 rfl (lv_at hl 1 rfl) ?_
    refine lv_bipush (v := 122) hx hb dX9_keyOf_6 (by decide) ?_
    refine lv_icmp_ne (tgt := 15) hx hb dX9_keyOf_8 (by decide) (fun c21 => ?_) (fun c21 => ?_)
    · replace hw := hw.1 c21
      refine lv_iload_n hx hb dX9_keyOf_15 rfl (lv_at hl 1 rfl) ?_
      refine lv_bipush (v := 111) hx hb dX9_keyOf_16 (by decide) ?_
      refine lv_icmp_ne (tgt := 25) hx hb dX9_keyOf_18 (by decide) (fun c20 => ?_) (fun c20 => ?_)
      · replace hw := hw.1 c20
        refine lv_iload_n hx hb dX9_keyOf_25 rfl (lv_at hl 1 rfl) ?_
        refine lv_bipush (v := 116) hx hb dX9_keyOf_26 (by decide) ?_
        refine lv_icmp_ne (tgt := 35) hx hb dX9_keyOf_28 (by decide) (fun c19 => ?_) (fun c19 => ?_)
        · replace hw := hw.1 c19
          refine lv_iload_n hx hb dX9_keyOf_35 rfl (lv_at hl 1 rfl) ?_
          refine lv_bipush (v := 102) hx hb dX9_keyOf_36 (by decide) ?_
          refine lv_icmp_ne (tgt := 45) hx hb dX9_keyOf_38 (by decide) (fun c18 => ?_) (fun c18 => ?_)
          · replace hw := hw.1 c18
            refine lv_iload_n hx hb dX9_keyOf_45 rfl (lv_at hl 1 rfl) ?_
            refine lv_bipush (v := 109) hx hb dX9_keyOf_46 (by decide) ?_
            refine lv_icmp_ne (tgt := 55) hx hb dX9_keyOf_48 (by decide) (fun c17 => ?_) (fun c17 => ?_)
            · replace hw := hw.1 c17
              refine lv_iload_n hx hb dX9_keyOf_55 rfl (lv_at hl 1 rfl) ?_
              refine lv_bipush (v := 120) hx hb dX9_keyOf_56 (by decide) ?_
              refine lv_icmp_ne (tgt := 65) hx hb dX9_keyOf_58 (by decide) (fun c16 => ?_) (fun c16 => ?_)
              · replace hw := hw.1 c16
                refine lv_iconst (v := (-1)) hx hb dX9_keyOf_65 (by decide) ?_
                exact wk_X9_keyOf_L66 hG _ _ hk hn hZ (lv_sub hl [] rfl) hw
              · replace hw := hw.2 c16
                refine lv_iconst (v := 5) hx hb dX9_keyOf_61 (by decide) ?_
                refine lv_goto (tgt := 66) hx hb dX9_keyOf_62 (by decide) ?_
                exact wk_X9_keyOf_L66 hG _ _ hk hn hZ (lv_sub hl [] rfl) hw
            · replace hw := hw.2 c17
              refine lv_iconst (v := 4) hx hb dX9_keyOf_51 (by decide) ?_
              refine lv_goto (tgt := 66) hx hb dX9_keyOf_52 (by decide) ?_
              exact wk_X9_keyOf_L66 hG _ _ hk hn hZ (lv_sub hl [] rfl) hw
          · replace hw := hw.2 c18
            refine lv_iconst (v := 3) hx hb dX9_keyOf_41 (by decide) ?_
            refine lv_goto (tgt := 66) hx hb dX9_keyOf_42 (by decide) ?_
            exact wk_X9_keyOf_L66 hG _ _ hk hn hZ (lv_sub hl [] rfl) hw
        · replace hw := hw.2 c19
          refine lv_iconst (v := 2) hx hb dX9_keyOf_31 (by decide) ?_
          refine lv_goto (tgt := 66) hx hb dX9_keyOf_32 (by decide) ?_
          exact wk_X9_keyOf_L66 hG _ _ hk hn hZ (lv_sub hl [] rfl) hw
      · replace hw := hw.2 c20
        refine lv_iconst (v := 1) hx hb dX9_keyOf_21 (by decide) ?_
        refine lv_goto (tgt := 66) hx hb dX9_keyOf_22 (by decide) ?_
        exact wk_X9_keyOf_L66 hG _ _ hk hn hZ (lv_sub hl [] rfl) hw
    · replace hw := hw.2 c21
      refine lv_iconst (v := 0) hx hb dX9_keyOf_11 (by decide) ?_
      refine lv_goto (tgt := 66) hx hb dX9_keyOf_12 (by decide) ?_
      exact wk_X9_keyOf_L66 hG _ _ hk hn hZ (lv_sub hl [] rfl) hw
abbrev rm_X9_lacks : Room := { frames := 9, cells := 0, slots := 0, locals := 278 }
def wp_X9_lacks_L25 (D : zD) (post : Int32 → zM → Prop) (o : Nat) (M : zM) : Prop :=
    post (-1 : Int32) M
set_option maxHeartbeats 4000000 in
set_option maxRecDepth 100000 in
theorem wk_X9_lacks_L25 {p : Program} {l : Launch} {e : Env} {s : State} {m : MethodId} {args : Array Value} {below : List Frame} {meth : Method} {c : Code} {D : zD} {post : Int32 → zM → Prop} {o : Nat} (hG : zGx p l s m args meth c cX9_lacks 5 "PluralBranchesModel" D (some .int) "lacks" []) : ∀ {H : Heap} {locs : List Loc} {cells slots : Nat} {ls : Array Slot} (M : zM), cells ≤ 0 → slots ≤ 0 → zS D M H locs → lv_has ls 5 [] → wp_X9_lacks_L25 D post o M → W p l e rm_X9_lacks s m args below meth c H locs cells slots (vx_MQ below (zQ D zI post) (zX D (fun _ _ => False)) args s 0 0 (zA D)) (F0 m 25 ls []) := by
  have hC := hG.1
  have hx := hC.x
  have hb := hC.b
  have hown := hC.o
  have hts := hC.ts
  have hlt := hG.2.2.2.2.2
  intro H locs cells slots ls M hk hn hZ hl hw
  refine lv_iconst (v := (-1)) hx hb dX9_lacks_25 (by decide) ?_
  exact z_iret hG hZ hk hn hw dX9_lacks_26
def wp_X9_lacks_L61 (D : zD) (post : Int32 → zM → Prop) (o : Nat) (y0 : Int32) (M : zM) : Prop :=
    post y0 M
set_option maxHeartbeats 4000000 in
set_option maxRecDepth 100000 in
theorem wk_X9_lacks_L61 {p : Program} {l : Launch} {e : Env} {s : State} {m : MethodId} {args : Array Value} {below : List Frame} {meth : Method} {c : Code} {D : zD} {post : Int32 → zM → Prop} {o : Nat} (hG : zGx p l s m args meth c cX9_lacks 5 "PluralBranchesModel" D (some .int) "lacks" []) : ∀ {H : Heap} {locs : List Loc} {cells slots : Nat} {ls : Array Slot} (y0 : Int32) (M : zM), cells ≤ 0 → slots ≤ 0 → zS D M H locs → lv_has ls 5 [] → wp_X9_lacks_L61 D post o y0 M → W p l e rm_X9_lacks s m args below meth c H locs cells slots (vx_MQ below (zQ D zI post) (zX D (fun _ _ => False)) args s 0 0 (zA D)) (F0 m 61 ls [.int y0]) := by
  have hC := hG.1
  have hx := hC.x
  have hb := hC.b
  have hown := hC.o
  have hts := hC.ts
  have hlt := hG.2.2.2.2.2
  intro H locs cells slots ls y0 M hk hn hZ hl hw
  exact z_iret hG hZ hk hn hw dX9_lacks_61
def wp_X9_lacks (D : zD) (post : Int32 → zM → Prop) (o : Nat) (a0 : Int32) (a1 : Int32) (a2 : Int32) (a3 : Int32) (M : zM) : Prop :=
    (wp_X9_isSlot D (fun r1 M => ((r1 = 0 → wp_X9_lacks_L25 D post o M) ∧ (¬ r1 = 0 → (wp_X9_isLanguage D (fun r4 M => ((r4 = 0 → wp_X9_lacks_L25 D post o M) ∧ (¬ r4 = 0 → (wp_X9_in D (fun r7 M => ((¬ r7 = 0 → ((zis M o [8] ∧ wp_X9_isChoice D (fun r10 M => ((¬ r10 = 0 → ((¬ a3 = 0 → ((zis M o [8] ∧ wp_X9_deadOf D (fun r13 M => wp_X9_lacks_L61 D post o r13 M) o a0 a1 a2 M))) ∧ (a3 = 0 → ((zis M o [8] ∧ wp_X9_lacksOf D (fun r16 M => wp_X9_lacks_L61 D post o r16 M) o a0 a1 a2 M))))) ∧ (r10 = 0 → post (-2 : Int32) M))) o a0 a2 M))) ∧ (r7 = 0 → wp_X9_lacks_L25 D post o M))) (a3.toInt64) (0 : Int64) (1 : Int64) M)))) a1 M)))) a0 M)
set_option maxHeartbeats 4000000 in
set_option maxRecDepth 100000 in
theorem w_X9_lacks {l : Launch} {D : zD} {post : Int32 → zM → Prop} (hlt : l.stackTraces = false) {o : Nat} {a0 : Int32} {a1 : Int32} {a2 : Int32} {a3 : Int32} {M : zM} (hw : wp_X9_lacks D post o a0 a1 a2 a3 M) : zMet l D yX9_lacks (ws_ yX9_lacks cX9_lacks 5 (some .int)) rm_X9_lacks 0 0 [.ref o, .int a0, .int a1, .int a2, .int a3] M zI post (fun _ _ => False) := by
  unfold wp_X9_lacks at hw
  have hlv : lv_args 0 [.ref o, .int a0, .int a1, .int a2, .int a3] = [(0, .ref o), (1, .int a0), (2, .int a1), (3, .int a2), (4, .int a3)] := (zargs1 rfl (zargs1 rfl (zargs1 rfl (zargs1 rfl (zargs1 rfl rfl)))))
  refine z_ofW hlt (by decide) (Nat.le_trans (zsl1 rfl (zsl1 rfl (zsl1 rfl (zsl1 rfl (zsl1 rfl (Nat.le_refl 0 : (lg_sl []).length ≤ 0)))))) (Nat.le_of_ble_eq_true rfl)) hlv ?_
  intro p e s m args below meth c ls hG hZ hl
  have hC := hG.1
  have hx := hC.x
  have hb := hC.b
  have hown := hC.o
  have hts := hC.ts
  have hlt := hG.2.2.2.2.2
  obtain ⟨cells, hce⟩ : ∃ z : Nat, z = 0 := ⟨0, rfl⟩
  obtain ⟨slots, hsl⟩ : ∃ z : Nat, z = 0 := ⟨0, rfl⟩
  refine W.cs (cells' := cells) (slots' := slots) hce.symm hsl.symm ?_
  have hk : cells ≤ 0 := Nat.le_of_eq hce
  have hn : slots ≤ 0 := Nat.le_of_eq hsl
  clear hce hsl
  refine lv_iload_n hx hb dX9_lacks_0 rfl (lv_at hl 1 rfl) ?_
  refine z_callI hZ (vx_runS (As := [.int a0]) (rest := []) hC.fix (w_X9_isSlot hlt hw) (va_cwS 1 hts (lw_S q1963 q1964 q83 q1965) rfl rfl rfl dd_X9_isSlot ⟨Nat.le_of_ble_eq_true rfl, Nat.le_of_ble_eq_true rfl⟩) (z_preS hC hZ) rfl rfl hl.1 rfl (lv_room (Nat.zero_le _)) dX9_lacks_1 ⟨hk, hn⟩) (fun r24 M H locs hw1 hZ => ?_) (fun q M H locs ci fs E T9 N9 hw hZ hc1 hM1 hb1 => False.elim hw)
  replace hw := hw1
  clear hw1
  refine W.cs (cells' := cells) (slots' := slots) rfl rfl ?_
  refine lv_if_eq (tgt := 25) hx hb dX9_lacks_4 (by decide) (fun c46 => ?_) (fun c46 => ?_)
  · replace hw := hw.1 c46
    exact wk_X9_lacks_L25 hG _ hk hn hZ (lv_sub hl [] rfl) hw
  · replace hw := hw.2 c46
    refine lv_iload_n hx hb dX9_lacks_7 rfl (lv_at hl 2 rfl) ?_
    refine z_callI hZ (vx_runS (As := [.int a1]) (rest := []) hC.fix (w_X9_isLanguage hlt hw) (va_cwS 1 hts (lw_S q1919 q1920 q83 q1921) rfl rfl rfl dd_X9_isLanguage ⟨Nat.le_of_ble_eq_true rfl, Nat.le_of_ble_eq_true rfl⟩) (z_preS hC hZ) rfl rfl hl.1 rfl (lv_room (Nat.zero_le _)) dX9_lacks_8 ⟨hk, hn⟩) (fun r27 M H locs hw1 hZ => ?_) (fun q M H locs ci fs E T9 N9 hw hZ hc1 hM1 hb1 => False.elim hw)
    replace hw := hw1
    clear hw1
    refine W.cs (cells' := cells) (slots' := slots) rfl rfl ?_
    refine lv_if_eq (tgt := 25) hx hb dX9_lacks_11 (by decide) (fun c45 => ?_) (fun c45 => ?_)
    · replace hw := hw.1 c45
      exact wk_X9_lacks_L25 hG _ hk hn hZ (lv_sub hl [] rfl) hw
    · replace hw := hw.2 c45
      refine lv_iload hx hb dX9_lacks_14 (lv_at hl 4 rfl) ?_
      refine lv_i2l hx hb dX9_lacks_16 rfl ?_
      refine lv_lconst (v := 0) hx hb dX9_lacks_17 (by decide) ?_
      refine lv_lconst (v := 1) hx hb dX9_lacks_18 (by decide) ?_
      refine z_callI hZ (vx_runS (As := [.long (a3.toInt64), .long (0 : Int64), .long (1 : Int64)]) (rest := []) hC.fix (w_X9_in hlt hw) (va_cwS 3 hts (lw_S q1894 q1895 q83 q1896) rfl rfl rfl dd_X9_in ⟨Nat.le_of_ble_eq_true rfl, Nat.le_of_ble_eq_true rfl⟩) (z_preS hC hZ) rfl rfl hl.1 rfl (lv_room (Nat.zero_le _)) dX9_lacks_19 ⟨hk, hn⟩) (fun r30 M H locs hw1 hZ => ?_) (fun q M H locs ci fs E T9 N9 hw hZ hc1 hM1 hb1 => False.elim hw)
      replace hw := hw1
      clear hw1
      refine W.cs (cells' := cells) (slots' := slots) rfl rfl ?_
      refine lv_if_ne (tgt := 27) hx hb dX9_lacks_22 (by decide) (fun c44 => ?_) (fun c44 => ?_)
      · replace hw := hw.1 c44
        refine lv_aload_n hx hb dX9_lacks_27 rfl (lv_at hl 0 rfl) ?_
        refine lv_iload_n hx hb dX9_lacks_28 rfl (lv_at hl 1 rfl) ?_
        refine lv_iload_n hx hb dX9_lacks_29 rfl (lv_at hl 3 rfl) ?_
        obtain ⟨⟨ci0, fs0, hci0, hM0⟩, hw⟩ := hw
        obtain rfl : ci0 = 8 := List.mem_singleton.mp hci0
        refine z_callI hZ (vx_runV (As := [.int a0, .int a2]) (rest := []) hC.fix (w_X9_isChoice hlt hw) (cwV 2 hts (lw_V q2037 q2039 qs42 q83 q2040) rfl rfl rfl ⟨rfl, dd_X9_isChoice⟩ ⟨Nat.le_of_ble_eq_true rfl, Nat.le_of_ble_eq_true rfl⟩) (z_preV hC hZ hM0 zc8) rfl rfl hl.1 rfl (lv_room (Nat.zero_le _)) dX9_lacks_30 ⟨hk, hn⟩) (fun r33 M H locs hw1 hZ => ?_) (fun q M H locs ci fs E T9 N9 hw hZ hc1 hM1 hb1 => False.elim hw)
        replace hw := hw1
        clear hw1
        refine W.cs (cells' := cells) (slots' := slots) rfl rfl ?_
        refine lv_if_ne (tgt := 39) hx hb dX9_lacks_33 (by decide) (fun c43 => ?_) (fun c43 => ?_)
        · replace hw := hw.1 c43
          refine lv_iload hx hb dX9_lacks_39 (lv_at hl 4 rfl) ?_
          refine lv_if_ne (tgt := 54) hx hb dX9_lacks_41 (by decide) (fun c42 => ?_) (fun c42 => ?_)
          · replace hw := hw.1 c42
            refine lv_aload_n hx hb dX9_lacks_54 rfl (lv_at hl 0 rfl) ?_
            refine lv_iload_n hx hb dX9_lacks_55 rfl (lv_at hl 1 rfl) ?_
            refine lv_iload_n hx hb dX9_lacks_56 rfl (lv_at hl 2 rfl) ?_
            refine lv_iload_n hx hb dX9_lacks_57 rfl (lv_at hl 3 rfl) ?_
            obtain ⟨⟨ci0, fs0, hci0, hM0⟩, hw⟩ := hw
            obtain rfl : ci0 = 8 := List.mem_singleton.mp hci0
            refine z_callI hZ (vx_runV (As := [.int a0, .int a1, .int a2]) (rest := []) hC.fix (w_X9_deadOf hlt hw) (cwV 3 hts (lw_V q2061 q2063 qs46 q83 q2064) rfl rfl rfl ⟨rfl, dd_X9_deadOf⟩ ⟨Nat.le_of_ble_eq_true rfl, Nat.le_of_ble_eq_true rfl⟩) (z_preV hC hZ hM0 zc8) rfl rfl hl.1 rfl (lv_room (Nat.zero_le _)) dX9_lacks_58 ⟨hk, hn⟩) (fun r36 M H locs hw1 hZ => ?_) (fun q M H locs ci fs E T9 N9 hw hZ hc1 hM1 hb1 => False.elim hw)
            replace hw := hw1
            clear hw1
            refine W.cs (cells' := cells) (slots' := slots) rfl rfl ?_
            exact wk_X9_lacks_L61 hG _ _ hk hn hZ (lv_sub hl [] rfl) hw
          · replace hw := hw.2 c42
            refine lv_aload_n hx hb dX9_lacks_44 rfl (lv_at hl 0 rfl) ?_
            refine lv_iload_n hx hb dX9_lacks_45 rfl (lv_at hl 1 rfl) ?_
            refine lv_iload_n hx hb dX9_lacks_46 rfl (lv_at hl 2 rfl) ?_
            refine lv_iload_n hx hb dX9_lacks_47 rfl (lv_at hl 3 rfl) ?_
            obtain ⟨⟨ci0, fs0, hci0, hM0⟩, hw⟩ := hw
            obtain rfl : ci0 = 8 := List.mem_singleton.mp hci0
            refine z_callI hZ (vx_runV (As := [.int a0, .int a1, .int a2]) (rest := []) hC.fix (w_X9_lacksOf hlt hw) (cwV 3 hts (lw_V q2053 q2055 qs44 q83 q2056) rfl rfl rfl ⟨rfl, dd_X9_lacksOf⟩ ⟨Nat.le_of_ble_eq_true rfl, Nat.le_of_ble_eq_true rfl⟩) (z_preV hC hZ hM0 zc8) rfl rfl hl.1 rfl (lv_room (Nat.zero_le _)) dX9_lacks_48 ⟨hk, hn⟩) (fun r39 M H locs hw1 hZ => ?_) (fun q M H locs ci fs E T9 N9 hw hZ hc1 hM1 hb1 => False.elim hw)
            replace hw := hw1
            clear hw1
            refine W.cs (cells' := cells) (slots' := slots) rfl rfl ?_
            refine lv_goto (tgt := 61) hx hb dX9_lacks_51 (by decide) ?_
            exact wk_X9_lacks_L61 hG _ _ hk hn hZ (lv_sub hl [] rfl) hw
        · replace hw := hw.2 c43
          refine lv_bipush (v := (-2)) hx hb dX9_lacks_36 (by decide) ?_
          exact z_iret hG hZ hk hn hw dX9_lacks_38
      · replace hw := hw.2 c44
        exact wk_X9_lacks_L25 hG _ hk hn hZ (lv_sub hl [] rfl) hw
abbrev rm_X9_list : Room := { frames := 3, cells := 0, slots := 0, locals := 109 }
def wp_X9_list_L19 (D : zD) (post : Int32 → zM → Prop) (o : Nat) (M : zM) : Prop :=
    post (-1 : Int32) M
set_option maxHeartbeats 4000000 in
set_option maxRecDepth 100000 in
theorem wk_X9_list_L19 {p : Program} {l : Launch} {e : Env} {s : State} {m : MethodId} {args : Array Value} {below : List Frame} {meth : Method} {c : Code} {D : zD} {post : Int32 → zM → Prop} {o : Nat} (hG : zGx p l s m args meth c cX9_list 6 "PluralBranchesModel" D (some .int) "list" []) : ∀ {H : Heap} {locs : List Loc} {cells slots : Nat} {ls : Array Slot} (M : zM), cells ≤ 0 → slots ≤ 0 → zS D M H locs → lv_has ls 6 [] → wp_X9_list_L19 D post o M → W p l e rm_X9_list s m args below meth c H locs cells slots (vx_MQ below (zQ D zI post) (zX D (fun _ _ => False)) args s 0 0 (zA D)) (F0 m 19 ls []) := by
  have hC := hG.1
  have hx := hC.x
  have hb := hC.b
  have hown := hC.o
  have hts := hC.ts
  have hlt := hG.2.2.2.2.2
  intro H locs cells slots ls M hk hn hZ hl hw
  refine lv_iconst (v := (-1)) hx hb dX9_list_19 (by decide) ?_
  exact z_iret hG hZ hk hn hw dX9_list_20
def wp_X9_list (D : zD) (post : Int32 → zM → Prop) (o : Nat) (a0 : Int32) (a1 : Int32) (a2 : Int32) (a3 : Int32) (a4 : Int32) (M : zM) : Prop :=
    (wp_X9_isArgument D (fun r1 M => ((r1 = 0 → wp_X9_list_L19 D post o M) ∧ (¬ r1 = 0 → (wp_X9_in D (fun r4 M => ((¬ r4 = 0 → ((zis M o [8] ∧ wp_X9_holdsNow D (fun _ M => (zgR M o 8 44 fun g10 => ((zd g10 fun b11 => zsI D M b11 ((6 : Int32) * a0) a2 fun M => (zgR M o 8 44 fun g12 => ((zd g12 fun b13 => zsI D M b13 (((6 : Int32) * a0) + (1 : Int32)) a3 fun M => (zgR M o 8 44 fun g14 => ((zd g14 fun b15 => zsI D M b15 (((6 : Int32) * a0) + (2 : Int32)) a4 fun M => post a1 M)))))))))) o a0 (3 : Int32) a1 (0 : Int32) M))) ∧ (r4 = 0 → wp_X9_list_L19 D post o M))) (a1.toInt64) (0 : Int64) (3 : Int64) M)))) a0 M)
set_option maxHeartbeats 4000000 in
set_option maxRecDepth 100000 in
theorem w_X9_list {l : Launch} {D : zD} {post : Int32 → zM → Prop} (hlt : l.stackTraces = false) {o : Nat} {a0 : Int32} {a1 : Int32} {a2 : Int32} {a3 : Int32} {a4 : Int32} {M : zM} (hw : wp_X9_list D post o a0 a1 a2 a3 a4 M) : zMet l D yX9_list (ws_ yX9_list cX9_list 6 (some .int)) rm_X9_list 0 0 [.ref o, .int a0, .int a1, .int a2, .int a3, .int a4] M zI post (fun _ _ => False) := by
  unfold wp_X9_list at hw
  have hlv : lv_args 0 [.ref o, .int a0, .int a1, .int a2, .int a3, .int a4] = [(0, .ref o), (1, .int a0), (2, .int a1), (3, .int a2), (4, .int a3), (5, .int a4)] := (zargs1 rfl (zargs1 rfl (zargs1 rfl (zargs1 rfl (zargs1 rfl (zargs1 rfl rfl))))))
  refine z_ofW hlt (by decide) (Nat.le_trans (zsl1 rfl (zsl1 rfl (zsl1 rfl (zsl1 rfl (zsl1 rfl (zsl1 rfl (Nat.le_refl 0 : (lg_sl []).length ≤ 0))))))) (Nat.le_of_ble_eq_true rfl)) hlv ?_
  intro p e s m args below meth c ls hG hZ hl
  have hC := hG.1
  have hx := hC.x
  have hb := hC.b
  have hown := hC.o
  have hts := hC.ts
  have hlt := hG.2.2.2.2.2
  obtain ⟨cells, hce⟩ : ∃ z : Nat, z = 0 := ⟨0, rfl⟩
  obtain ⟨slots, hsl⟩ : ∃ z : Nat, z = 0 := ⟨0, rfl⟩
  refine W.cs (cells' := cells) (slots' := slots) hce.symm hsl.symm ?_
  have hk : cells ≤ 0 := Nat.le_of_eq hce
  have hn : slots ≤ 0 := Nat.le_of_eq hsl
  clear hce hsl
  refine lv_iload_n hx hb dX9_list_0 rfl (lv_at hl 1 rfl) ?_
  refine z_callI hZ (vx_runS (As := [.int a0]) (rest := []) hC.fix (w_X9_isArgument hlt hw) (va_cwS 1 hts (lw_S q2030 q2031 q83 q2032) rfl rfl rfl dd_X9_isArgument ⟨Nat.le_of_ble_eq_true rfl, Nat.le_of_ble_eq_true rfl⟩) (z_preS hC hZ) rfl rfl hl.1 rfl (lv_room (Nat.zero_le _)) dX9_list_1 ⟨hk, hn⟩) (fun r18 M H locs hw1 hZ => ?_) (fun q M H locs ci fs E T9 N9 hw hZ hc1 hM1 hb1 => False.elim hw)
  replace hw := hw1
  clear hw1
  refine W.cs (cells' := cells) (slots' := slots) rfl rfl ?_
  refine lv_if_eq (tgt := 19) hx hb dX9_list_4 (by decide) (fun c34 => ?_) (fun c34 => ?_)
  · replace hw := hw.1 c34
    exact wk_X9_list_L19 hG _ hk hn hZ (lv_sub hl [] rfl) hw
  · replace hw := hw.2 c34
    refine lv_iload_n hx hb dX9_list_7 rfl (lv_at hl 2 rfl) ?_
    refine lv_i2l hx hb dX9_list_8 rfl ?_
    refine lv_lconst (v := 0) hx hb dX9_list_9 (by decide) ?_
    refine lv_ldc2 hx hb hown (hts _ q1936) dX9_list_10 ?_
    refine z_callI hZ (vx_runS (As := [.long (a1.toInt64), .long (0 : Int64), .long (3 : Int64)]) (rest := []) hC.fix (w_X9_in hlt hw) (va_cwS 3 hts (lw_S q1894 q1895 q83 q1896) rfl rfl rfl dd_X9_in ⟨Nat.le_of_ble_eq_true rfl, Nat.le_of_ble_eq_true rfl⟩) (z_preS hC hZ) rfl rfl hl.1 rfl (lv_room (Nat.zero_le _)) dX9_list_13 ⟨hk, hn⟩) (fun r21 M H locs hw1 hZ => ?_) (fun q M H locs ci fs E T9 N9 hw hZ hc1 hM1 hb1 => False.elim hw)
    replace hw := hw1
    clear hw1
    refine W.cs (cells' := cells) (slots' := slots) rfl rfl ?_
    refine lv_if_ne (tgt := 21) hx hb dX9_list_16 (by decide) (fun c33 => ?_) (fun c33 => ?_)
    · replace hw := hw.1 c33
      refine lv_aload_n hx hb dX9_list_21 rfl (lv_at hl 0 rfl) ?_
      refine lv_iload_n hx hb dX9_list_22 rfl (lv_at hl 1 rfl) ?_
      refine lv_iconst (v := 3) hx hb dX9_list_23 (by decide) ?_
      refine lv_iload_n hx hb dX9_list_24 rfl (lv_at hl 2 rfl) ?_
      refine lv_iconst (v := 0) hx hb dX9_list_25 (by decide) ?_
      obtain ⟨⟨ci0, fs0, hci0, hM0⟩, hw⟩ := hw
      obtain rfl : ci0 = 8 := List.mem_singleton.mp hci0
      refine z_callU hZ (vx_runV (As := [.int a0, .int (3 : Int32), .int a1, .int (0 : Int32)]) (rest := []) hC.fix (w_X9_holdsNow hlt hw) (cwV 4 hts (lw_V q2081 q2083 qs48 q83 q2084) rfl rfl rfl ⟨rfl, dd_X9_holdsNow⟩ ⟨Nat.le_of_ble_eq_true rfl, Nat.le_of_ble_eq_true rfl⟩) (z_preV hC hZ hM0 zc8) rfl rfl hl.1 rfl (lv_room (Nat.zero_le _)) dX9_list_26 ⟨hk, hn⟩) (fun r24 M H locs hw1 hZ => ?_) (fun q M H locs ci fs E T9 N9 hw hZ hc1 hM1 hb1 => False.elim hw)
      replace hw := hw1
      clear hw1
      refine W.cs (cells' := cells) (slots' := slots) rfl rfl ?_
      refine lv_aload_n hx hb dX9_list_29 rfl (lv_at hl 0 rfl) ?_
      obtain ⟨fs0, g27, hM0, hx0, hw⟩ := hw
      refine z_get hC hZ hM0 zc8 44 (by decide) q1764 (fun _ h9 => h9) hx0 dX9_list_30 ?_
      refine lv_bipush (v := 6) hx hb dX9_list_33 (by decide) ?_
      refine lv_iload_n hx hb dX9_list_35 rfl (lv_at hl 1 rfl) ?_
      refine lv_imul hx hb dX9_list_36 ?_
      refine lv_iload_n hx hb dX9_list_37 rfl (lv_at hl 3 rfl) ?_
      obtain ⟨b28, hr0, hw⟩ := hw
      subst hr0
      obtain ⟨n0, f0, hM0, hb0, hi0, hw⟩ := hw
      refine z_iast hC hZ hM0 hb0 hi0 dX9_list_38 (fun H locs hZ => ?_)
      generalize zu M _ _ = M at hw hZ
      refine lv_aload_n hx hb dX9_list_39 rfl (lv_at hl 0 rfl) ?_
      obtain ⟨fs0, g29, hM0, hx0, hw⟩ := hw
      refine z_get hC hZ hM0 zc8 44 (by decide) q1764 (fun _ h9 => h9) hx0 dX9_list_40 ?_
      refine lv_bipush (v := 6) hx hb dX9_list_43 (by decide) ?_
      refine lv_iload_n hx hb dX9_list_45 rfl (lv_at hl 1 rfl) ?_
      refine lv_imul hx hb dX9_list_46 ?_
      refine lv_iconst (v := 1) hx hb dX9_list_47 (by decide) ?_
      refine lv_iadd hx hb dX9_list_48 ?_
      refine lv_iload hx hb dX9_list_49 (lv_at hl 4 rfl) ?_
      obtain ⟨b30, hr0, hw⟩ := hw
      subst hr0
      obtain ⟨n0, f0, hM0, hb0, hi0, hw⟩ := hw
      refine z_iast hC hZ hM0 hb0 hi0 dX9_list_51 (fun H locs hZ => ?_)
      generalize zu M _ _ = M at hw hZ
      refine lv_aload_n hx hb dX9_list_52 rfl (lv_at hl 0 rfl) ?_
      obtain ⟨fs0, g31, hM0, hx0, hw⟩ := hw
      refine z_get hC hZ hM0 zc8 44 (by decide) q1764 (fun _ h9 => h9) hx0 dX9_list_53 ?_
      refine lv_bipush (v := 6) hx hb dX9_list_56 (by decide) ?_
      refine lv_iload_n hx hb dX9_list_58 rfl (lv_at hl 1 rfl) ?_
      refine lv_imul hx hb dX9_list_59 ?_
      refine lv_iconst (v := 2) hx hb dX9_list_60 (by decide) ?_
      refine lv_iadd hx hb dX9_list_61 ?_
      refine lv_iload hx hb dX9_list_62 (lv_at hl 5 rfl) ?_
      obtain ⟨b32, hr0, hw⟩ := hw
      subst hr0
      obtain ⟨n0, f0, hM0, hb0, hi0, hw⟩ := hw
      refine z_iast hC hZ hM0 hb0 hi0 dX9_list_64 (fun H locs hZ => ?_)
      generalize zu M _ _ = M at hw hZ
      refine lv_iload_n hx hb dX9_list_65 rfl (lv_at hl 2 rfl) ?_
      exact z_iret hG hZ hk hn hw dX9_list_66
    · replace hw := hw.2 c33
      exact wk_X9_list_L19 hG _ hk hn hZ (lv_sub hl [] rfl) hw
abbrev rm_X9_more : Room := { frames := 3, cells := 0, slots := 0, locals := 109 }
def wp_X9_more (D : zD) (post : Int32 → zM → Prop) (o : Nat) (a0 : Int32) (a1 : Int32) (M : zM) : Prop :=
    (wp_X9_isArgument D (fun r1 M => ((¬ r1 = 0 → (zgR M o 8 41 fun g4 => ((zd g4 fun b5 => zaI M b5 0 a0 fun v6 => ((v6 = (3 : Int32) → (zgR M o 8 42 fun g7 => ((zd g7 fun b8 => zaI M b8 0 a0 fun v9 => ((¬ v9 = (6 : Int32) → (zgR M o 8 44 fun g10 => (zgR M o 8 42 fun g11 => ((zd g11 fun b12 => zaI M b12 0 a0 fun v13 => ((zd g10 fun b14 => zsI D M b14 (((6 : Int32) * a0) + v13) a1 fun M => (zgR M o 8 42 fun g15 => ((zd g15 fun b16 => zaI M b16 0 a0 fun v17 => (zsI D M b16 a0 (v17 + (1 : Int32)) fun M => (zgR M o 8 42 fun g18 => ((zd g18 fun b19 => zaI M b19 0 a0 fun v20 => post v20 M)))))))))))))) ∧ (v9 = (6 : Int32) → post (-3 : Int32) M)))))) ∧ (¬ v6 = (3 : Int32) → post (-2 : Int32) M)))))) ∧ (r1 = 0 → post (-1 : Int32) M))) a0 M)
set_option maxHeartbeats 4000000 in
set_option maxRecDepth 100000 in
theorem w_X9_more {l : Launch} {D : zD} {post : Int32 → zM → Prop} (hlt : l.stackTraces = false) {o : Nat} {a0 : Int32} {a1 : Int32} {M : zM} (hw : wp_X9_more D post o a0 a1 M) : zMet l D yX9_more (ws_ yX9_more cX9_more 3 (some .int)) rm_X9_more 0 0 [.ref o, .int a0, .int a1] M zI post (fun _ _ => False) := by
  unfold wp_X9_more at hw
  have hlv : lv_args 0 [.ref o, .int a0, .int a1] = [(0, .ref o), (1, .int a0), (2, .int a1)] := (zargs1 rfl (zargs1 rfl (zargs1 rfl rfl)))
  refine z_ofW hlt (by decide) (Nat.le_trans (zsl1 rfl (zsl1 rfl (zsl1 rfl (Nat.le_refl 0 : (lg_sl []).length ≤ 0)))) (Nat.le_of_ble_eq_true rfl)) hlv ?_
  intro p e s m args below meth c ls hG hZ hl
  have hC := hG.1
  have hx := hC.x
  have hb := hC.b
  have hown := hC.o
  have hts := hC.ts
  have hlt := hG.2.2.2.2.2
  obtain ⟨cells, hce⟩ : ∃ z : Nat, z = 0 := ⟨0, rfl⟩
  obtain ⟨slots, hsl⟩ : ∃ z : Nat, z = 0 := ⟨0, rfl⟩
  refine W.cs (cells' := cells) (slots' := slots) hce.symm hsl.symm ?_
  have hk : cells ≤ 0 := Nat.le_of_eq hce
  have hn : slots ≤ 0 := Nat.le_of_eq hsl
  clear hce hsl
  refine lv_iload_n hx hb dX9_more_0 rfl (lv_at hl 1 rfl) ?_
  refine z_callI hZ (vx_runS (As := [.int a0]) (rest := []) hC.fix (w_X9_isArgument hlt hw) (va_cwS 1 hts (lw_S q2030 q2031 q83 q2032) rfl rfl rfl dd_X9_isArgument ⟨Nat.le_of_ble_eq_true rfl, Nat.le_of_ble_eq_true rfl⟩) (z_preS hC hZ) rfl rfl hl.1 rfl (lv_room (Nat.zero_le _)) dX9_more_1 ⟨hk, hn⟩) (fun r24 M H locs hw1 hZ => ?_) (fun q M H locs ci fs E T9 N9 hw hZ hc1 hM1 hb1 => False.elim hw)
  replace hw := hw1
  clear hw1
  refine W.cs (cells' := cells) (slots' := slots) rfl rfl ?_
  refine lv_if_ne (tgt := 9) hx hb dX9_more_4 (by decide) (fun c46 => ?_) (fun c46 => ?_)
  · replace hw := hw.1 c46
    refine lv_aload_n hx hb dX9_more_9 rfl (lv_at hl 0 rfl) ?_
    obtain ⟨fs0, g27, hM0, hx0, hw⟩ := hw
    refine z_get hC hZ hM0 zc8 41 (by decide) q1761 (fun _ h9 => h9) hx0 dX9_more_10 ?_
    refine lv_iload_n hx hb dX9_more_13 rfl (lv_at hl 1 rfl) ?_
    obtain ⟨b28, hr0, hw⟩ := hw
    subst hr0
    obtain ⟨n0, f0, hM0, hi0, hw⟩ := hw
    refine z_iald hC hZ hM0 hi0 dX9_more_14 ?_
    generalize f0 _ = v29 at hw ⊢
    refine lv_iconst (v := 3) hx hb dX9_more_15 (by decide) ?_
    refine lv_icmp_eq (tgt := 22) hx hb dX9_more_16 (by decide) (fun c45 => ?_) (fun c45 => ?_)
    · replace hw := hw.1 c45
      refine lv_aload_n hx hb dX9_more_22 rfl (lv_at hl 0 rfl) ?_
      obtain ⟨fs0, g30, hM0, hx0, hw⟩ := hw
      refine z_get hC hZ hM0 zc8 42 (by decide) q1762 (fun _ h9 => h9) hx0 dX9_more_23 ?_
      refine lv_iload_n hx hb dX9_more_26 rfl (lv_at hl 1 rfl) ?_
      obtain ⟨b31, hr0, hw⟩ := hw
      subst hr0
      obtain ⟨n0, f0, hM0, hi0, hw⟩ := hw
      refine z_iald hC hZ hM0 hi0 dX9_more_27 ?_
      generalize f0 _ = v32 at hw ⊢
      refine lv_bipush (v := 6) hx hb dX9_more_28 (by decide) ?_
      refine lv_icmp_ne (tgt := 36) hx hb dX9_more_30 (by decide) (fun c44 => ?_) (fun c44 => ?_)
      · replace hw := hw.1 c44
        refine lv_aload_n hx hb dX9_more_36 rfl (lv_at hl 0 rfl) ?_
        obtain ⟨fs0, g33, hM0, hx0, hw⟩ := hw
        refine z_get hC hZ hM0 zc8 44 (by decide) q1764 (fun _ h9 => h9) hx0 dX9_more_37 ?_
        refine lv_bipush (v := 6) hx hb dX9_more_40 (by decide) ?_
        refine lv_iload_n hx hb dX9_more_42 rfl (lv_at hl 1 rfl) ?_
        refine lv_imul hx hb dX9_more_43 ?_
        refine lv_aload_n hx hb dX9_more_44 rfl (lv_at hl 0 rfl) ?_
        obtain ⟨fs0, g34, hM0, hx0, hw⟩ := hw
        refine z_get hC hZ hM0 zc8 42 (by decide) q1762 (fun _ h9 => h9) hx0 dX9_more_45 ?_
        refine lv_iload_n hx hb dX9_more_48 rfl (lv_at hl 1 rfl) ?_
        obtain ⟨b35, hr0, hw⟩ := hw
        subst hr0
        obtain ⟨n0, f0, hM0, hi0, hw⟩ := hw
        refine z_iald hC hZ hM0 hi0 dX9_more_49 ?_
        generalize f0 _ = v36 at hw ⊢
        refine lv_iadd hx hb dX9_more_50 ?_
        refine lv_iload_n hx hb dX9_more_51 rfl (lv_at hl 2 rfl) ?_
        obtain ⟨b37, hr0, hw⟩ := hw
        subst hr0
        obtain ⟨n0, f0, hM0, hb0, hi0, hw⟩ := hw
        refine z_iast hC hZ hM0 hb0 hi0 dX9_more_52 (fun H locs hZ => ?_)
        generalize zu M _ _ = M at hw hZ
        refine lv_aload_n hx hb dX9_more_53 rfl (lv_at hl 0 rfl) ?_
        obtain ⟨fs0, g38, hM0, hx0, hw⟩ := hw
        refine z_get hC hZ hM0 zc8 42 (by decide) q1762 (fun _ h9 => h9) hx0 dX9_more_54 ?_
        refine lv_iload_n hx hb dX9_more_57 rfl (lv_at hl 1 rfl) ?_
        refine lv_dup2_11 hx hb dX9_more_58 rfl (zcat _) ?_
        obtain ⟨b39, hr0, hw⟩ := hw
        subst hr0
        obtain ⟨n0, f0, hM0, hi0, hw⟩ := hw
        refine z_iald hC hZ hM0 hi0 dX9_more_59 ?_
        generalize f0 _ = v40 at hw ⊢
        refine lv_iconst (v := 1) hx hb dX9_more_60 (by decide) ?_
        refine lv_iadd hx hb dX9_more_61 ?_
        obtain ⟨n0, f0, hM0, hb0, hi0, hw⟩ := hw
        refine z_iast hC hZ hM0 hb0 hi0 dX9_more_62 (fun H locs hZ => ?_)
        generalize zu M _ _ = M at hw hZ
        refine lv_aload_n hx hb dX9_more_63 rfl (lv_at hl 0 rfl) ?_
        obtain ⟨fs0, g41, hM0, hx0, hw⟩ := hw
        refine z_get hC hZ hM0 zc8 42 (by decide) q1762 (fun _ h9 => h9) hx0 dX9_more_64 ?_
        refine lv_iload_n hx hb dX9_more_67 rfl (lv_at hl 1 rfl) ?_
        obtain ⟨b42, hr0, hw⟩ := hw
        subst hr0
        obtain ⟨n0, f0, hM0, hi0, hw⟩ := hw
        refine z_iald hC hZ hM0 hi0 dX9_more_68 ?_
        generalize f0 _ = v43 at hw ⊢
        exact z_iret hG hZ hk hn hw dX9_more_69
      · replace hw := hw.2 c44
        refine lv_bipush (v := (-3)) hx hb dX9_more_33 (by decide) ?_
        exact z_iret hG hZ hk hn hw dX9_more_35
    · replace hw := hw.2 c45
      refine lv_bipush (v := (-2)) hx hb dX9_more_19 (by decide) ?_
      exact z_iret hG hZ hk hn hw dX9_more_21
  · replace hw := hw.2 c46
    refine lv_iconst (v := (-1)) hx hb dX9_more_7 (by decide) ?_
    exact z_iret hG hZ hk hn hw dX9_more_8
abbrev rm_X9_move : Room := { frames := 3, cells := 0, slots := 0, locals := 109 }
def wp_X9_move_L14 (D : zD) (post : Int32 → zM → Prop) (o : Nat) (M : zM) : Prop :=
    post (-1 : Int32) M
set_option maxHeartbeats 4000000 in
set_option maxRecDepth 100000 in
theorem wk_X9_move_L14 {p : Program} {l : Launch} {e : Env} {s : State} {m : MethodId} {args : Array Value} {below : List Frame} {meth : Method} {c : Code} {D : zD} {post : Int32 → zM → Prop} {o : Nat} (hG : zGx p l s m args meth c cX9_move 8 "PluralBranchesModel" D (some .int) "move" []) : ∀ {H : Heap} {locs : List Loc} {cells slots : Nat} {ls : Array Slot} (M : zM), cells ≤ 0 → slots ≤ 0 → zS D M H locs → lv_has ls 8 [] → wp_X9_move_L14 D post o M → W p l e rm_X9_move s m args below meth c H locs cells slots (vx_MQ below (zQ D zI post) (zX D (fun _ _ => False)) args s 0 0 (zA D)) (F0 m 14 ls []) := by
  have hC := hG.1
  have hx := hC.x
  have hb := hC.b
  have hown := hC.o
  have hts := hC.ts
  have hlt := hG.2.2.2.2.2
  intro H locs cells slots ls M hk hn hZ hl hw
  refine lv_iconst (v := (-1)) hx hb dX9_move_14 (by decide) ?_
  exact z_iret hG hZ hk hn hw dX9_move_15
def wp_X9_move_L34 (D : zD) (post : Int32 → zM → Prop) (o : Nat) (M : zM) : Prop :=
    post (-11 : Int32) M
set_option maxHeartbeats 4000000 in
set_option maxRecDepth 100000 in
theorem wk_X9_move_L34 {p : Program} {l : Launch} {e : Env} {s : State} {m : MethodId} {args : Array Value} {below : List Frame} {meth : Method} {c : Code} {D : zD} {post : Int32 → zM → Prop} {o : Nat} (hG : zGx p l s m args meth c cX9_move 8 "PluralBranchesModel" D (some .int) "move" []) : ∀ {H : Heap} {locs : List Loc} {cells slots : Nat} {ls : Array Slot} (M : zM), cells ≤ 0 → slots ≤ 0 → zS D M H locs → lv_has ls 8 [] → wp_X9_move_L34 D post o M → W p l e rm_X9_move s m args below meth c H locs cells slots (vx_MQ below (zQ D zI post) (zX D (fun _ _ => False)) args s 0 0 (zA D)) (F0 m 34 ls []) := by
  have hC := hG.1
  have hx := hC.x
  have hb := hC.b
  have hown := hC.o
  have hts := hC.ts
  have hlt := hG.2.2.2.2.2
  intro H locs cells slots ls M hk hn hZ hl hw
  refine lv_bipush (v := (-11)) hx hb dX9_move_34 (by decide) ?_
  exact z_iret hG hZ hk hn hw dX9_move_36
def wp_X9_move_L96 (D : zD) (post : Int32 → zM → Prop) (o : Nat) (M : zM) : Prop :=
    post (-12 : Int32) M
set_option maxHeartbeats 4000000 in
set_option maxRecDepth 100000 in
theorem wk_X9_move_L96 {p : Program} {l : Launch} {e : Env} {s : State} {m : MethodId} {args : Array Value} {below : List Frame} {meth : Method} {c : Code} {D : zD} {post : Int32 → zM → Prop} {o : Nat} (hG : zGx p l s m args meth c cX9_move 8 "PluralBranchesModel" D (some .int) "move" []) : ∀ {H : Heap} {locs : List Loc} {cells slots : Nat} {ls : Array Slot} (M : zM), cells ≤ 0 → slots ≤ 0 → zS D M H locs → lv_has ls 8 [] → wp_X9_move_L96 D post o M → W p l e rm_X9_move s m args below meth c H locs cells slots (vx_MQ below (zQ D zI post) (zX D (fun _ _ => False)) args s 0 0 (zA D)) (F0 m 96 ls []) := by
  have hC := hG.1
  have hx := hC.x
  have hb := hC.b
  have hown := hC.o
  have hts := hC.ts
  have hlt := hG.2.2.2.2.2
  intro H locs cells slots ls M hk hn hZ hl hw
  refine lv_bipush (v := (-12)) hx hb dX9_move_96 (by decide) ?_
  exact z_iret hG hZ hk hn hw dX9_move_98
def wp_X9_move_L132 (D : zD) (post : Int32 → zM → Prop) (o : Nat) (k102 : Int32 → Int32 → Int32 → Int32 → Int32 → Int32 → zM → Prop) (x1 : Int32) (x2 : Int32) (x3 : Int32) (x4 : Int32) (x5 : Int32) (x6 : Int32) (y0 : Int32) (M : zM) : Prop :=
    (zgR M o 8 53 fun g1 => (zgR M o 8 53 fun g2 => ((zd g2 fun b3 => zaF M b3 ((((30 : Int32) * x1) + x2) + y0) fun v4 => ((zd g1 fun b5 => zsF D M b5 ((((30 : Int32) * x3) + x4) + y0) v4 fun M => (zgR M o 8 54 fun g6 => (zgR M o 8 54 fun g7 => ((zd g7 fun b8 => zaD M b8 ((((30 : Int32) * x1) + x2) + y0) fun v9 => ((zd g6 fun b10 => zsD D M b10 ((((30 : Int32) * x3) + x4) + y0) v9 fun M => (zgR M o 8 55 fun g11 => (zgR M o 8 55 fun g12 => ((zd g12 fun b13 => zaL M b13 ((((30 : Int32) * x1) + x2) + y0) fun v14 => ((zd g11 fun b15 => zsL D M b15 ((((30 : Int32) * x3) + x4) + y0) v14 fun M => k102 x1 x2 x3 x4 x5 (x6 + 1) M))))))))))))))))))
set_option maxHeartbeats 4000000 in
set_option maxRecDepth 100000 in
theorem wk_X9_move_L132 {p : Program} {l : Launch} {e : Env} {s : State} {m : MethodId} {args : Array Value} {below : List Frame} {meth : Method} {c : Code} {D : zD} {post : Int32 → zM → Prop} {o : Nat} (hG : zGx p l s m args meth c cX9_move 8 "PluralBranchesModel" D (some .int) "move" []) (k102 : Int32 → Int32 → Int32 → Int32 → Int32 → Int32 → zM → Prop) (hk102 : ∀ {H : Heap} {locs : List Loc} {cells slots : Nat} {ls : Array Slot} (x1 : Int32) (x2 : Int32) (x3 : Int32) (x4 : Int32) (x5 : Int32) (x6 : Int32) (M : zM), cells ≤ 0 → slots ≤ 0 → zS D M H locs → lv_has ls 8 [(0, .ref o), (1, .int x1), (2, .int x2), (3, .int x3), (4, .int x4), (5, .int x5), (6, .int x6)] → k102 x1 x2 x3 x4 x5 x6 M → W p l e rm_X9_move s m args below meth c H locs cells slots (vx_MQ below (zQ D zI post) (zX D (fun _ _ => False)) args s 0 0 (zA D)) (F0 m 102 ls [])) : ∀ {H : Heap} {locs : List Loc} {cells slots : Nat} {ls : Array Slot} (x1 : Int32) (x2 : Int32) (x3 : Int32) (x4 : Int32) (x5 : Int32) (x6 : Int32) (y0 : Int32) (M : zM), cells ≤ 0 → slots ≤ 0 → zS D M H locs → lv_has ls 8 [(0, .ref o), (1, .int x1), (2, .int x2), (3, .int x3), (4, .int x4), (5, .int x5), (6, .int x6)] → wp_X9_move_L132 D post o k102 x1 x2 x3 x4 x5 x6 y0 M → W p l e rm_X9_move s m args below meth c H locs cells slots (vx_MQ below (zQ D zI post) (zX D (fun _ _ => False)) args s 0 0 (zA D)) (F0 m 132 ls [.int y0]) := by
  have hC := hG.1
  have hx := hC.x
  have hb := hC.b
  have hown := hC.o
  have hts := hC.ts
  have hlt := hG.2.2.2.2.2
  intro H locs cells slots ls x1 x2 x3 x4 x5 x6 y0 M hk hn hZ hl hw
  refine lv_istore (i := 7) (lv' := [(7, .int y0), (0, .ref o), (1, .int x1), (2, .int x2), (3, .int x3), (4, .int x4), (5, .int x5), (6, .int x6)]) hx hb dX9_move_132 hl (by decide) rfl (fun ls hl1 => ?_)
  replace hl := hl1
  clear hl1
  refine lv_aload_n hx hb dX9_move_134 rfl (lv_at hl 1 rfl) ?_
  obtain ⟨fs0, g16, hM0, hx0, hw⟩ := hw
  refine z_get hC hZ hM0 zc8 53 (by decide) q1773 (fun _ h9 => h9) hx0 dX9_move_135 ?_
  refine lv_bipush (v := 30) hx hb dX9_move_138 (by decide) ?_
  refine lv_iload_n hx hb dX9_move_140 rfl (lv_at hl 4 rfl) ?_
  refine lv_imul hx hb dX9_move_141 ?_
  refine lv_iload hx hb dX9_move_142 (lv_at hl 5 rfl) ?_
  refine lv_iadd hx hb dX9_move_144 ?_
  refine lv_iload hx hb dX9_move_145 (lv_at hl 0 rfl) ?_
  refine lv_iadd hx hb dX9_move_147 ?_
  refine lv_aload_n hx hb dX9_move_148 rfl (lv_at hl 1 rfl) ?_
  obtain ⟨fs0, g17, hM0, hx0, hw⟩ := hw
  refine z_get hC hZ hM0 zc8 53 (by decide) q1773 (fun _ h9 => h9) hx0 dX9_move_149 ?_
  refine lv_bipush (v := 30) hx hb dX9_move_152 (by decide) ?_
  refine lv_iload_n hx hb dX9_move_154 rfl (lv_at hl 2 rfl) ?_
  refine lv_imul hx hb dX9_move_155 ?_
  refine lv_iload_n hx hb dX9_move_156 rfl (lv_at hl 3 rfl) ?_
  refine lv_iadd hx hb dX9_move_157 ?_
  refine lv_iload hx hb dX9_move_158 (lv_at hl 0 rfl) ?_
  refine lv_iadd hx hb dX9_move_160 ?_
  obtain ⟨b18, hr0, hw⟩ := hw
  subst hr0
  obtain ⟨n0, f0, hM0, hi0, hw⟩ := hw
  refine z_fald hC hZ hM0 hi0 dX9_move_161 ?_
  generalize f0 _ = v19 at hw ⊢
  obtain ⟨b20, hr0, hw⟩ := hw
  subst hr0
  obtain ⟨n0, f0, hM0, hb0, hi0, hw⟩ := hw
  refine z_fast hC hZ hM0 hb0 hi0 dX9_move_162 (fun H locs hZ => ?_)
  generalize zu M _ _ = M at hw hZ
  refine lv_aload_n hx hb dX9_move_163 rfl (lv_at hl 1 rfl) ?_
  obtain ⟨fs0, g21, hM0, hx0, hw⟩ := hw
  refine z_get hC hZ hM0 zc8 54 (by decide) q1774 (fun _ h9 => h9) hx0 dX9_move_164 ?_
  refine lv_bipush (v := 30) hx hb dX9_move_167 (by decide) ?_
  refine lv_iload_n hx hb dX9_move_169 rfl (lv_at hl 4 rfl) ?_
  refine lv_imul hx hb dX9_move_170 ?_
  refine lv_iload hx hb dX9_move_171 (lv_at hl 5 rfl) ?_
  refine lv_iadd hx hb dX9_move_173 ?_
  refine lv_iload hx hb dX9_move_174 (lv_at hl 0 rfl) ?_
  refine lv_iadd hx hb dX9_move_176 ?_
  refine lv_aload_n hx hb dX9_move_177 rfl (lv_at hl 1 rfl) ?_
  obtain ⟨fs0, g22, hM0, hx0, hw⟩ := hw
  refine z_get hC hZ hM0 zc8 54 (by decide) q1774 (fun _ h9 => h9) hx0 dX9_move_178 ?_
  refine lv_bipush (v := 30) hx hb dX9_move_181 (by decide) ?_
  refine lv_iload_n hx hb dX9_move_183 rfl (lv_at hl 2 rfl) ?_
  refine lv_imul hx hb dX9_move_184 ?_
  refine lv_iload_n hx hb dX9_move_185 rfl (lv_at hl 3 rfl) ?_
  refine lv_iadd hx hb dX9_move_186 ?_
  refine lv_iload hx hb dX9_move_187 (lv_at hl 0 rfl) ?_
  refine lv_iadd hx hb dX9_move_189 ?_
  obtain ⟨b23, hr0, hw⟩ := hw
  subst hr0
  obtain ⟨n0, f0, hM0, hi0, hw⟩ := hw
  refine z_dald hC hZ hM0 hi0 dX9_move_190 ?_
  generalize f0 _ = v24 at hw ⊢
  obtain ⟨b25, hr0, hw⟩ := hw
  subst hr0
  obtain ⟨n0, f0, hM0, hb0, hi0, hw⟩ := hw
  refine z_dast hC hZ hM0 hb0 hi0 dX9_move_191 (fun H locs hZ => ?_)
  generalize zu M _ _ = M at hw hZ
  refine lv_aload_n hx hb dX9_move_192 rfl (lv_at hl 1 rfl) ?_
  obtain ⟨fs0, g26, hM0, hx0, hw⟩ := hw
  refine z_get hC hZ hM0 zc8 55 (by decide) q1775 (fun _ h9 => h9) hx0 dX9_move_193 ?_
  refine lv_bipush (v := 30) hx hb dX9_move_196 (by decide) ?_
  refine lv_iload_n hx hb dX9_move_198 rfl (lv_at hl 4 rfl) ?_
  refine lv_imul hx hb dX9_move_199 ?_
  refine lv_iload hx hb dX9_move_200 (lv_at hl 5 rfl) ?_
  refine lv_iadd hx hb dX9_move_202 ?_
  refine lv_iload hx hb dX9_move_203 (lv_at hl 0 rfl) ?_
  refine lv_iadd hx hb dX9_move_205 ?_
  refine lv_aload_n hx hb dX9_move_206 rfl (lv_at hl 1 rfl) ?_
  obtain ⟨fs0, g27, hM0, hx0, hw⟩ := hw
  refine z_get hC hZ hM0 zc8 55 (by decide) q1775 (fun _ h9 => h9) hx0 dX9_move_207 ?_
  refine lv_bipush (v := 30) hx hb dX9_move_210 (by decide) ?_
  refine lv_iload_n hx hb dX9_move_212 rfl (lv_at hl 2 rfl) ?_
  refine lv_imul hx hb dX9_move_213 ?_
  refine lv_iload_n hx hb dX9_move_214 rfl (lv_at hl 3 rfl) ?_
  refine lv_iadd hx hb dX9_move_215 ?_
  refine lv_iload hx hb dX9_move_216 (lv_at hl 0 rfl) ?_
  refine lv_iadd hx hb dX9_move_218 ?_
  obtain ⟨b28, hr0, hw⟩ := hw
  subst hr0
  obtain ⟨n0, f0, hM0, hi0, hw⟩ := hw
  refine z_lald hC hZ hM0 hi0 dX9_move_219 ?_
  generalize f0 _ = v29 at hw ⊢
  obtain ⟨b30, hr0, hw⟩ := hw
  subst hr0
  obtain ⟨n0, f0, hM0, hb0, hi0, hw⟩ := hw
  refine z_last hC hZ hM0 hb0 hi0 dX9_move_220 (fun H locs hZ => ?_)
  generalize zu M _ _ = M at hw hZ
  refine lv_iinc (v := (x6 + 1)) (lv' := [(6, .int (x6 + 1)), (7, .int y0), (0, .ref o), (1, .int x1), (2, .int x2), (3, .int x3), (4, .int x4), (5, .int x5)]) hx hb dX9_move_221 hl (k := 7) rfl rfl (by decide) rfl (fun ls hl1 => ?_)
  replace hl := hl1
  clear hl1
  refine lv_goto (tgt := 102) hx hb dX9_move_224 (by decide) ?_
  exact hk102 _ _ _ _ _ _ _ hk hn hZ (lv_sub hl [2, 3, 4, 5, 6, 7, 0] rfl) hw
def wp_X9_move_L130 (D : zD) (post : Int32 → zM → Prop) (o : Nat) (k102 : Int32 → Int32 → Int32 → Int32 → Int32 → Int32 → zM → Prop) (x1 : Int32) (x2 : Int32) (x3 : Int32) (x4 : Int32) (x5 : Int32) (x6 : Int32) (M : zM) : Prop :=
    wp_X9_move_L132 D post o k102 x1 x2 x3 x4 x5 x6 x6 M
set_option maxHeartbeats 4000000 in
set_option maxRecDepth 100000 in
theorem wk_X9_move_L130 {p : Program} {l : Launch} {e : Env} {s : State} {m : MethodId} {args : Array Value} {below : List Frame} {meth : Method} {c : Code} {D : zD} {post : Int32 → zM → Prop} {o : Nat} (hG : zGx p l s m args meth c cX9_move 8 "PluralBranchesModel" D (some .int) "move" []) (k102 : Int32 → Int32 → Int32 → Int32 → Int32 → Int32 → zM → Prop) (hk102 : ∀ {H : Heap} {locs : List Loc} {cells slots : Nat} {ls : Array Slot} (x1 : Int32) (x2 : Int32) (x3 : Int32) (x4 : Int32) (x5 : Int32) (x6 : Int32) (M : zM), cells ≤ 0 → slots ≤ 0 → zS D M H locs → lv_has ls 8 [(0, .ref o), (1, .int x1), (2, .int x2), (3, .int x3), (4, .int x4), (5, .int x5), (6, .int x6)] → k102 x1 x2 x3 x4 x5 x6 M → W p l e rm_X9_move s m args below meth c H locs cells slots (vx_MQ below (zQ D zI post) (zX D (fun _ _ => False)) args s 0 0 (zA D)) (F0 m 102 ls [])) : ∀ {H : Heap} {locs : List Loc} {cells slots : Nat} {ls : Array Slot} (x1 : Int32) (x2 : Int32) (x3 : Int32) (x4 : Int32) (x5 : Int32) (x6 : Int32) (M : zM), cells ≤ 0 → slots ≤ 0 → zS D M H locs → lv_has ls 8 [(0, .ref o), (1, .int x1), (2, .int x2), (3, .int x3), (4, .int x4), (5, .int x5), (6, .int x6)] → wp_X9_move_L130 D post o k102 x1 x2 x3 x4 x5 x6 M → W p l e rm_X9_move s m args below meth c H locs cells slots (vx_MQ below (zQ D zI post) (zX D (fun _ _ => False)) args s 0 0 (zA D)) (F0 m 130 ls []) := by
  have hC := hG.1
  have hx := hC.x
  have hb := hC.b
  have hown := hC.o
  have hts := hC.ts
  have hlt := hG.2.2.2.2.2
  intro H locs cells slots ls x1 x2 x3 x4 x5 x6 M hk hn hZ hl hw
  refine lv_iload hx hb dX9_move_130 (lv_at hl 6 rfl) ?_
  exact wk_X9_move_L132 hG k102 hk102 _ _ _ _ _ _ _ _ hk hn hZ (lv_sub hl [0, 1, 2, 3, 4, 5, 6] rfl) hw
def wp_X9_move_L102 (D : zD) (post : Int32 → zM → Prop) (o : Nat) : Nat → Int32 → Int32 → Int32 → Int32 → Int32 → Int32 → zM → Prop
  | 0 => fun _ _ _ _ _ _ _ => False
  | f + 1 => fun x1 x2 x3 x4 x5 x6 M =>
    ((x5 ≤ x6 → post x5 M) ∧ (¬ x5 ≤ x6 → ((¬ x1 = x3 → wp_X9_move_L130 D post o (wp_X9_move_L102 D post o f) x1 x2 x3 x4 x5 x6 M) ∧ (x1 = x3 → ((x4 ≤ x2 → wp_X9_move_L130 D post o (wp_X9_move_L102 D post o f) x1 x2 x3 x4 x5 x6 M) ∧ (¬ x4 ≤ x2 → wp_X9_move_L132 D post o (wp_X9_move_L102 D post o f) x1 x2 x3 x4 x5 x6 ((x5 - (1 : Int32)) - x6) M))))))
set_option maxHeartbeats 4000000 in
set_option maxRecDepth 100000 in
theorem wk_X9_move_L102 {p : Program} {l : Launch} {e : Env} {s : State} {m : MethodId} {args : Array Value} {below : List Frame} {meth : Method} {c : Code} {D : zD} {post : Int32 → zM → Prop} {o : Nat} (hG : zGx p l s m args meth c cX9_move 8 "PluralBranchesModel" D (some .int) "move" []) : ∀ (f : Nat), ∀ {H : Heap} {locs : List Loc} {cells slots : Nat} {ls : Array Slot} (x1 : Int32) (x2 : Int32) (x3 : Int32) (x4 : Int32) (x5 : Int32) (x6 : Int32) (M : zM), cells ≤ 0 → slots ≤ 0 → zS D M H locs → lv_has ls 8 [(0, .ref o), (1, .int x1), (2, .int x2), (3, .int x3), (4, .int x4), (5, .int x5), (6, .int x6)] → wp_X9_move_L102 D post o f x1 x2 x3 x4 x5 x6 M → W p l e rm_X9_move s m args below meth c H locs cells slots (vx_MQ below (zQ D zI post) (zX D (fun _ _ => False)) args s 0 0 (zA D)) (F0 m 102 ls []) := by
  have hC := hG.1
  have hx := hC.x
  have hb := hC.b
  have hown := hC.o
  have hts := hC.ts
  have hlt := hG.2.2.2.2.2
  intro f
  induction f with
  | zero =>
    intro H locs cells slots ls x1 x2 x3 x4 x5 x6 M hk hn hZ hl hw
    exact absurd hw (fun h => h)
  | succ f ih =>
    intro H locs cells slots ls x1 x2 x3 x4 x5 x6 M hk hn hZ hl hw
    refine lv_iload hx hb dX9_move_102 (lv_at hl 6 rfl) ?_
    refine lv_iload hx hb dX9_move_104 (lv_at hl 5 rfl) ?_
    refine lv_icmp_ge (tgt := 227) hx hb dX9_move_106 (by decide) (fun c36 => ?_) (fun c36 => ?_)
    · replace hw := hw.1 c36
      refine lv_iload hx hb dX9_move_227 (lv_at hl 5 rfl) ?_
      exact z_iret hG hZ hk hn hw dX9_move_229
    · replace hw := hw.2 c36
      refine lv_iload_n hx hb dX9_move_109 rfl (lv_at hl 1 rfl) ?_
      refine lv_iload_n hx hb dX9_move_110 rfl (lv_at hl 3 rfl) ?_
      refine lv_icmp_ne (tgt := 130) hx hb dX9_move_111 (by decide) (fun c35 => ?_) (fun c35 => ?_)
      · replace hw := hw.1 c35
        exact wk_X9_move_L130 hG _ (fun {_ _ _ _ _} _z0 _z1 _z2 _z3 _z4 _z5 _z6 h1 h2 h3 h4 h5 => ih _z0 _z1 _z2 _z3 _z4 _z5 _z6 h1 h2 h3 h4 h5) _ _ _ _ _ _ _ hk hn hZ (lv_sub hl [0, 1, 2, 3, 4, 5, 6] rfl) hw
      · replace hw := hw.2 c35
        refine lv_iload_n hx hb dX9_move_114 rfl (lv_at hl 2 rfl) ?_
        refine lv_iload hx hb dX9_move_115 (lv_at hl 4 rfl) ?_
        refine lv_icmp_ge (tgt := 130) hx hb dX9_move_117 (by decide) (fun c34 => ?_) (fun c34 => ?_)
        · replace hw := hw.1 c34
          exact wk_X9_move_L130 hG _ (fun {_ _ _ _ _} _z0 _z1 _z2 _z3 _z4 _z5 _z6 h1 h2 h3 h4 h5 => ih _z0 _z1 _z2 _z3 _z4 _z5 _z6 h1 h2 h3 h4 h5) _ _ _ _ _ _ _ hk hn hZ (lv_sub hl [0, 1, 2, 3, 4, 5, 6] rfl) hw
        · replace hw := hw.2 c34
          refine lv_iload hx hb dX9_move_120 (lv_at hl 5 rfl) ?_
          refine lv_iconst (v := 1) hx hb dX9_move_122 (by decide) ?_
          refine lv_isub hx hb dX9_move_123 ?_
          refine lv_iload hx hb dX9_move_124 (lv_at hl 6 rfl) ?_
          refine lv_isub hx hb dX9_move_126 ?_
          refine lv_goto (tgt := 132) hx hb dX9_move_127 (by decide) ?_
          exact wk_X9_move_L132 hG _ (fun {_ _ _ _ _} _z0 _z1 _z2 _z3 _z4 _z5 _z6 h1 h2 h3 h4 h5 => ih _z0 _z1 _z2 _z3 _z4 _z5 _z6 h1 h2 h3 h4 h5) _ _ _ _ _ _ _ _ hk hn hZ (lv_sub hl [0, 1, 2, 3, 4, 5, 6] rfl) hw
def wp_X9_move (D : zD) (post : Int32 → zM → Prop) (o : Nat) (a0 : Int32) (a1 : Int32) (a2 : Int32) (a3 : Int32) (a4 : Int32) (M : zM) : Prop :=
    (wp_X9_isRow D (fun r37 M => ((r37 = 0 → wp_X9_move_L14 D post o M) ∧ (¬ r37 = 0 → (wp_X9_isRow D (fun r40 M => ((¬ r40 = 0 → (zgR M o 8 51 fun g43 => ((zd g43 fun b44 => zaI M b44 0 a0 fun v45 => ((v45 < 0 → wp_X9_move_L34 D post o M) ∧ (¬ v45 < 0 → (zgR M o 8 51 fun g46 => ((zd g46 fun b47 => zaI M b47 0 a2 fun v48 => ((0 ≤ v48 → (zgR M o 8 52 fun g49 => ((zd g49 fun b50 => zaI M b50 0 a0 fun v51 => (zgR M o 8 52 fun g52 => ((zd g52 fun b53 => zaI M b53 0 a2 fun v54 => ((v51 = v54 → ((a4 < 0 → wp_X9_move_L96 D post o M) ∧ (¬ a4 < 0 → ((a1 < 0 → wp_X9_move_L96 D post o M) ∧ (¬ a1 < 0 → ((a3 < 0 → wp_X9_move_L96 D post o M) ∧ (¬ a3 < 0 → (zgR M o 8 51 fun g55 => ((zd g55 fun b56 => zaI M b56 0 a0 fun v57 => (((v57 - a1) < a4 → wp_X9_move_L96 D post o M) ∧ (¬ (v57 - a1) < a4 → (zgR M o 8 51 fun g58 => ((zd g58 fun b59 => zaI M b59 0 a2 fun v60 => ((a4 ≤ (v60 - a3) → (∃ f, wp_X9_move_L102 D post o f a0 a1 a2 a3 a4 (0 : Int32) M)) ∧ (¬ a4 ≤ (v60 - a3) → wp_X9_move_L96 D post o M))))))))))))))))) ∧ (¬ v51 = v54 → post (-13 : Int32) M))))))))) ∧ (¬ 0 ≤ v48 → wp_X9_move_L34 D post o M))))))))))) ∧ (r40 = 0 → wp_X9_move_L14 D post o M))) a2 M)))) a0 M)
set_option maxHeartbeats 4000000 in
set_option maxRecDepth 100000 in
theorem w_X9_move {l : Launch} {D : zD} {post : Int32 → zM → Prop} (hlt : l.stackTraces = false) {o : Nat} {a0 : Int32} {a1 : Int32} {a2 : Int32} {a3 : Int32} {a4 : Int32} {M : zM} (hw : wp_X9_move D post o a0 a1 a2 a3 a4 M) : zMet l D yX9_move (ws_ yX9_move cX9_move 8 (some .int)) rm_X9_move 0 0 [.ref o, .int a0, .int a1, .int a2, .int a3, .int a4] M zI post (fun _ _ => False) := by
  unfold wp_X9_move at hw
  have hlv : lv_args 0 [.ref o, .int a0, .int a1, .int a2, .int a3, .int a4] = [(0, .ref o), (1, .int a0), (2, .int a1), (3, .int a2), (4, .int a3), (5, .int a4)] := (zargs1 rfl (zargs1 rfl (zargs1 rfl (zargs1 rfl (zargs1 rfl (zargs1 rfl rfl))))))
  refine z_ofW hlt (by decide) (Nat.le_trans (zsl1 rfl (zsl1 rfl (zsl1 rfl (zsl1 rfl (zsl1 rfl (zsl1 rfl (Nat.le_refl 0 : (lg_sl []).length ≤ 0))))))) (Nat.le_of_ble_eq_true rfl)) hlv ?_
  intro p e s m args below meth c ls hG hZ hl
  have hC := hG.1
  have hx := hC.x
  have hb := hC.b
  have hown := hC.o
  have hts := hC.ts
  have hlt := hG.2.2.2.2.2
  obtain ⟨cells, hce⟩ : ∃ z : Nat, z = 0 := ⟨0, rfl⟩
  obtain ⟨slots, hsl⟩ : ∃ z : Nat, z = 0 := ⟨0, rfl⟩
  refine W.cs (cells' := cells) (slots' := slots) hce.symm hsl.symm ?_
  have hk : cells ≤ 0 := Nat.le_of_eq hce
  have hn : slots ≤ 0 := Nat.le_of_eq hsl
  clear hce hsl
  refine lv_iload_n hx hb dX9_move_0 rfl (lv_at hl 1 rfl) ?_
  refine z_callI hZ (vx_runS (As := [.int a0]) (rest := []) hC.fix (w_X9_isRow hlt hw) (va_cwS 1 hts (lw_S q2214 q2215 q83 q2216) rfl rfl rfl dd_X9_isRow ⟨Nat.le_of_ble_eq_true rfl, Nat.le_of_ble_eq_true rfl⟩) (z_preS hC hZ) rfl rfl hl.1 rfl (lv_room (Nat.zero_le _)) dX9_move_1 ⟨hk, hn⟩) (fun r71 M H locs hw1 hZ => ?_) (fun q M H locs ci fs E T9 N9 hw hZ hc1 hM1 hb1 => False.elim hw)
  replace hw := hw1
  clear hw1
  refine W.cs (cells' := cells) (slots' := slots) rfl rfl ?_
  refine lv_if_eq (tgt := 14) hx hb dX9_move_4 (by decide) (fun c104 => ?_) (fun c104 => ?_)
  · replace hw := hw.1 c104
    exact wk_X9_move_L14 hG _ hk hn hZ (lv_sub hl [] rfl) hw
  · replace hw := hw.2 c104
    refine lv_iload_n hx hb dX9_move_7 rfl (lv_at hl 3 rfl) ?_
    refine z_callI hZ (vx_runS (As := [.int a2]) (rest := []) hC.fix (w_X9_isRow hlt hw) (va_cwS 1 hts (lw_S q2214 q2215 q83 q2216) rfl rfl rfl dd_X9_isRow ⟨Nat.le_of_ble_eq_true rfl, Nat.le_of_ble_eq_true rfl⟩) (z_preS hC hZ) rfl rfl hl.1 rfl (lv_room (Nat.zero_le _)) dX9_move_8 ⟨hk, hn⟩) (fun r74 M H locs hw1 hZ => ?_) (fun q M H locs ci fs E T9 N9 hw hZ hc1 hM1 hb1 => False.elim hw)
    replace hw := hw1
    clear hw1
    refine W.cs (cells' := cells) (slots' := slots) rfl rfl ?_
    refine lv_if_ne (tgt := 16) hx hb dX9_move_11 (by decide) (fun c103 => ?_) (fun c103 => ?_)
    · replace hw := hw.1 c103
      refine lv_aload_n hx hb dX9_move_16 rfl (lv_at hl 0 rfl) ?_
      obtain ⟨fs0, g77, hM0, hx0, hw⟩ := hw
      refine z_get hC hZ hM0 zc8 51 (by decide) q1771 (fun _ h9 => h9) hx0 dX9_move_17 ?_
      refine lv_iload_n hx hb dX9_move_20 rfl (lv_at hl 1 rfl) ?_
      obtain ⟨b78, hr0, hw⟩ := hw
      subst hr0
      obtain ⟨n0, f0, hM0, hi0, hw⟩ := hw
      refine z_iald hC hZ hM0 hi0 dX9_move_21 ?_
      generalize f0 _ = v79 at hw ⊢
      refine lv_if_lt (tgt := 34) hx hb dX9_move_22 (by decide) (fun c102 => ?_) (fun c102 => ?_)
      · replace hw := hw.1 c102
        exact wk_X9_move_L34 hG _ hk hn hZ (lv_sub hl [] rfl) hw
      · replace hw := hw.2 c102
        refine lv_aload_n hx hb dX9_move_25 rfl (lv_at hl 0 rfl) ?_
        obtain ⟨fs0, g80, hM0, hx0, hw⟩ := hw
        refine z_get hC hZ hM0 zc8 51 (by decide) q1771 (fun _ h9 => h9) hx0 dX9_move_26 ?_
        refine lv_iload_n hx hb dX9_move_29 rfl (lv_at hl 3 rfl) ?_
        obtain ⟨b81, hr0, hw⟩ := hw
        subst hr0
        obtain ⟨n0, f0, hM0, hi0, hw⟩ := hw
        refine z_iald hC hZ hM0 hi0 dX9_move_30 ?_
        generalize f0 _ = v82 at hw ⊢
        refine lv_if_ge (tgt := 37) hx hb dX9_move_31 (by decide) (fun c101 => ?_) (fun c101 => ?_)
        · replace hw := hw.1 c101
          refine lv_aload_n hx hb dX9_move_37 rfl (lv_at hl 0 rfl) ?_
          obtain ⟨fs0, g83, hM0, hx0, hw⟩ := hw
          refine z_get hC hZ hM0 zc8 52 (by decide) q1772 (fun _ h9 => h9) hx0 dX9_move_38 ?_
          refine lv_iload_n hx hb dX9_move_41 rfl (lv_at hl 1 rfl) ?_
          obtain ⟨b84, hr0, hw⟩ := hw
          subst hr0
          obtain ⟨n0, f0, hM0, hi0, hw⟩ := hw
          refine z_iald hC hZ hM0 hi0 dX9_move_42 ?_
          generalize f0 _ = v85 at hw ⊢
          refine lv_aload_n hx hb dX9_move_43 rfl (lv_at hl 0 rfl) ?_
          obtain ⟨fs0, g86, hM0, hx0, hw⟩ := hw
          refine z_get hC hZ hM0 zc8 52 (by decide) q1772 (fun _ h9 => h9) hx0 dX9_move_44 ?_
          refine lv_iload_n hx hb dX9_move_47 rfl (lv_at hl 3 rfl) ?_
          obtain ⟨b87, hr0, hw⟩ := hw
          subst hr0
          obtain ⟨n0, f0, hM0, hi0, hw⟩ := hw
          refine z_iald hC hZ hM0 hi0 dX9_move_48 ?_
          generalize f0 _ = v88 at hw ⊢
          refine lv_icmp_eq (tgt := 55) hx hb dX9_move_49 (by decide) (fun c100 => ?_) (fun c100 => ?_)
          · replace hw := hw.1 c100
            refine lv_iload hx hb dX9_move_55 (lv_at hl 5 rfl) ?_
            refine lv_if_lt (tgt := 96) hx hb dX9_move_57 (by decide) (fun c99 => ?_) (fun c99 => ?_)
            · replace hw := hw.1 c99
              exact wk_X9_move_L96 hG _ hk hn hZ (lv_sub hl [] rfl) hw
            · replace hw := hw.2 c99
              refine lv_iload_n hx hb dX9_move_60 rfl (lv_at hl 2 rfl) ?_
              refine lv_if_lt (tgt := 96) hx hb dX9_move_61 (by decide) (fun c98 => ?_) (fun c98 => ?_)
              · replace hw := hw.1 c98
                exact wk_X9_move_L96 hG _ hk hn hZ (lv_sub hl [] rfl) hw
              · replace hw := hw.2 c98
                refine lv_iload hx hb dX9_move_64 (lv_at hl 4 rfl) ?_
                refine lv_if_lt (tgt := 96) hx hb dX9_move_66 (by decide) (fun c97 => ?_) (fun c97 => ?_)
                · replace hw := hw.1 c97
                  exact wk_X9_move_L96 hG _ hk hn hZ (lv_sub hl [] rfl) hw
                · replace hw := hw.2 c97
                  refine lv_iload hx hb dX9_move_69 (lv_at hl 5 rfl) ?_
                  refine lv_aload_n hx hb dX9_move_71 rfl (lv_at hl 0 rfl) ?_
                  obtain ⟨fs0, g89, hM0, hx0, hw⟩ := hw
                  refine z_get hC hZ hM0 zc8 51 (by decide) q1771 (fun _ h9 => h9) hx0 dX9_move_72 ?_
                  refine lv_iload_n hx hb dX9_move_75 rfl (lv_at hl 1 rfl) ?_
                  obtain ⟨b90, hr0, hw⟩ := hw
                  subst hr0
                  obtain ⟨n0, f0, hM0, hi0, hw⟩ := hw
                  refine z_iald hC hZ hM0 hi0 dX9_move_76 ?_
                  generalize f0 _ = v91 at hw ⊢
                  refine lv_iload_n hx hb dX9_move_77 rfl (lv_at hl 2 rfl) ?_
                  refine lv_isub hx hb dX9_move_78 ?_
                  refine lv_icmp_gt (tgt := 96) hx hb dX9_move_79 (by decide) (fun c96 => ?_) (fun c96 => ?_)
                  · replace hw := hw.1 c96
                    exact wk_X9_move_L96 hG _ hk hn hZ (lv_sub hl [] rfl) hw
                  · replace hw := hw.2 c96
                    refine lv_iload hx hb dX9_move_82 (lv_at hl 5 rfl) ?_
                    refine lv_aload_n hx hb dX9_move_84 rfl (lv_at hl 0 rfl) ?_
                    obtain ⟨fs0, g92, hM0, hx0, hw⟩ := hw
                    refine z_get hC hZ hM0 zc8 51 (by decide) q1771 (fun _ h9 => h9) hx0 dX9_move_85 ?_
                    refine lv_iload_n hx hb dX9_move_88 rfl (lv_at hl 3 rfl) ?_
                    obtain ⟨b93, hr0, hw⟩ := hw
                    subst hr0
                    obtain ⟨n0, f0, hM0, hi0, hw⟩ := hw
                    refine z_iald hC hZ hM0 hi0 dX9_move_89 ?_
                    generalize f0 _ = v94 at hw ⊢
                    refine lv_iload hx hb dX9_move_90 (lv_at hl 4 rfl) ?_
                    refine lv_isub hx hb dX9_move_92 ?_
                    refine lv_icmp_le (tgt := 99) hx hb dX9_move_93 (by decide) (fun c95 => ?_) (fun c95 => ?_)
                    · replace hw := hw.1 c95
                      refine lv_iconst (v := 0) hx hb dX9_move_99 (by decide) ?_
                      refine lv_istore (i := 6) (lv' := [(6, .int (0 : Int32)), (0, .ref o), (1, .int a0), (2, .int a1), (3, .int a2), (4, .int a3), (5, .int a4)]) hx hb dX9_move_100 hl (by decide) rfl (fun ls hl1 => ?_)
                      replace hl := hl1
                      clear hl1
                      obtain ⟨f1, hw⟩ := hw
                      exact wk_X9_move_L102 hG f1 _ _ _ _ _ _ _ hk hn hZ (lv_sub hl [1, 2, 3, 4, 5, 6, 0] rfl) hw
                    · replace hw := hw.2 c95
                      exact wk_X9_move_L96 hG _ hk hn hZ (lv_sub hl [] rfl) hw
          · replace hw := hw.2 c100
            refine lv_bipush (v := (-13)) hx hb dX9_move_52 (by decide) ?_
            exact z_iret hG hZ hk hn hw dX9_move_54
        · replace hw := hw.2 c101
          exact wk_X9_move_L34 hG _ hk hn hZ (lv_sub hl [] rfl) hw
    · replace hw := hw.2 c103
      exact wk_X9_move_L14 hG _ hk hn hZ (lv_sub hl [] rfl) hw
abbrev rm_X9_operand : Room := { frames := 3, cells := 0, slots := 0, locals := 116 }
def wp_X9_operand_L36 (D : zD) (post : Int64 → zM → Prop) (o : Nat) (y0 : Int64) (M : zM) : Prop :=
    post y0 M
set_option maxHeartbeats 4000000 in
set_option maxRecDepth 100000 in
theorem wk_X9_operand_L36 {p : Program} {l : Launch} {e : Env} {s : State} {m : MethodId} {args : Array Value} {below : List Frame} {meth : Method} {c : Code} {D : zD} {post : Int64 → zM → Prop} {o : Nat} (hG : zGx p l s m args meth c cX9_operand 4 "PluralBranchesModel" D (some .long) "operand" []) : ∀ {H : Heap} {locs : List Loc} {cells slots : Nat} {ls : Array Slot} (y0 : Int64) (M : zM), cells ≤ 0 → slots ≤ 0 → zS D M H locs → lv_has ls 4 [] → wp_X9_operand_L36 D post o y0 M → W p l e rm_X9_operand s m args below meth c H locs cells slots (vx_MQ below (zQ D zL post) (zX D (fun _ _ => False)) args s 0 0 (zA D)) (F0 m 36 ls [.long y0]) := by
  have hC := hG.1
  have hx := hC.x
  have hb := hC.b
  have hown := hC.o
  have hts := hC.ts
  have hlt := hG.2.2.2.2.2
  intro H locs cells slots ls y0 M hk hn hZ hl hw
  exact z_lret hG hZ hk hn hw dX9_operand_36
def wp_X9_operand_L33 (D : zD) (post : Int64 → zM → Prop) (o : Nat) (M : zM) : Prop :=
    wp_X9_operand_L36 D post o (-9223372036854775808 : Int64) M
set_option maxHeartbeats 4000000 in
set_option maxRecDepth 100000 in
theorem wk_X9_operand_L33 {p : Program} {l : Launch} {e : Env} {s : State} {m : MethodId} {args : Array Value} {below : List Frame} {meth : Method} {c : Code} {D : zD} {post : Int64 → zM → Prop} {o : Nat} (hG : zGx p l s m args meth c cX9_operand 4 "PluralBranchesModel" D (some .long) "operand" []) : ∀ {H : Heap} {locs : List Loc} {cells slots : Nat} {ls : Array Slot} (M : zM), cells ≤ 0 → slots ≤ 0 → zS D M H locs → lv_has ls 4 [] → wp_X9_operand_L33 D post o M → W p l e rm_X9_operand s m args below meth c H locs cells slots (vx_MQ below (zQ D zL post) (zX D (fun _ _ => False)) args s 0 0 (zA D)) (F0 m 33 ls []) := by
  have hC := hG.1
  have hx := hC.x
  have hb := hC.b
  have hown := hC.o
  have hts := hC.ts
  have hlt := hG.2.2.2.2.2
  intro H locs cells slots ls M hk hn hZ hl hw
  refine lv_ldc2 hx hb hown (hts _ q1905) dX9_operand_33 ?_
  exact wk_X9_operand_L36 hG _ _ hk hn hZ (lv_sub hl [] rfl) hw
def wp_X9_operand (D : zD) (post : Int64 → zM → Prop) (o : Nat) (a0 : Int32) (a1 : Int32) (a2 : Int32) (M : zM) : Prop :=
    (wp_X9_in D (fun r1 M => ((r1 = 0 → wp_X9_operand_L33 D post o M) ∧ (¬ r1 = 0 → (wp_X9_in D (fun r4 M => ((r4 = 0 → wp_X9_operand_L33 D post o M) ∧ (¬ r4 = 0 → (wp_X9_operandOf D (fun r7 M => wp_X9_operand_L36 D post o r7 M) a0 a1 a2 M)))) (a2.toInt64) (0 : Int64) (4 : Int64) M)))) (a1.toInt64) (0 : Int64) (6 : Int64) M)
set_option maxHeartbeats 4000000 in
set_option maxRecDepth 100000 in
theorem w_X9_operand {l : Launch} {D : zD} {post : Int64 → zM → Prop} (hlt : l.stackTraces = false) {o : Nat} {a0 : Int32} {a1 : Int32} {a2 : Int32} {M : zM} (hw : wp_X9_operand D post o a0 a1 a2 M) : zMet l D yX9_operand (ws_ yX9_operand cX9_operand 4 (some .long)) rm_X9_operand 0 0 [.ref o, .int a0, .int a1, .int a2] M zL post (fun _ _ => False) := by
  unfold wp_X9_operand at hw
  have hlv : lv_args 0 [.ref o, .int a0, .int a1, .int a2] = [(0, .ref o), (1, .int a0), (2, .int a1), (3, .int a2)] := (zargs1 rfl (zargs1 rfl (zargs1 rfl (zargs1 rfl rfl))))
  refine z_ofW hlt (by decide) (Nat.le_trans (zsl1 rfl (zsl1 rfl (zsl1 rfl (zsl1 rfl (Nat.le_refl 0 : (lg_sl []).length ≤ 0))))) (Nat.le_of_ble_eq_true rfl)) hlv ?_
  intro p e s m args below meth c ls hG hZ hl
  have hC := hG.1
  have hx := hC.x
  have hb := hC.b
  have hown := hC.o
  have hts := hC.ts
  have hlt := hG.2.2.2.2.2
  obtain ⟨cells, hce⟩ : ∃ z : Nat, z = 0 := ⟨0, rfl⟩
  obtain ⟨slots, hsl⟩ : ∃ z : Nat, z = 0 := ⟨0, rfl⟩
  refine W.cs (cells' := cells) (slots' := slots) hce.symm hsl.symm ?_
  have hk : cells ≤ 0 := Nat.le_of_eq hce
  have hn : slots ≤ 0 := Nat.le_of_eq hsl
  clear hce hsl
  refine lv_iload_n hx hb dX9_operand_0 rfl (lv_at hl 2 rfl) ?_
  refine lv_i2l hx hb dX9_operand_1 rfl ?_
  refine lv_lconst (v := 0) hx hb dX9_operand_2 (by decide) ?_
  refine lv_ldc2 hx hb hown (hts _ q1893) dX9_operand_3 ?_
  refine z_callI hZ (vx_runS (As := [.long (a1.toInt64), .long (0 : Int64), .long (6 : Int64)]) (rest := []) hC.fix (w_X9_in hlt hw) (va_cwS 3 hts (lw_S q1894 q1895 q83 q1896) rfl rfl rfl dd_X9_in ⟨Nat.le_of_ble_eq_true rfl, Nat.le_of_ble_eq_true rfl⟩) (z_preS hC hZ) rfl rfl hl.1 rfl (lv_room (Nat.zero_le _)) dX9_operand_6 ⟨hk, hn⟩) (fun r12 M H locs hw1 hZ => ?_) (fun q M H locs ci fs E T9 N9 hw hZ hc1 hM1 hb1 => False.elim hw)
  replace hw := hw1
  clear hw1
  refine W.cs (cells' := cells) (slots' := slots) rfl rfl ?_
  refine lv_if_eq (tgt := 33) hx hb dX9_operand_9 (by decide) (fun c22 => ?_) (fun c22 => ?_)
  · replace hw := hw.1 c22
    exact wk_X9_operand_L33 hG _ hk hn hZ (lv_sub hl [] rfl) hw
  · replace hw := hw.2 c22
    refine lv_iload_n hx hb dX9_operand_12 rfl (lv_at hl 3 rfl) ?_
    refine lv_i2l hx hb dX9_operand_13 rfl ?_
    refine lv_lconst (v := 0) hx hb dX9_operand_14 (by decide) ?_
    refine lv_ldc2 hx hb hown (hts _ q1897) dX9_operand_15 ?_
    refine z_callI hZ (vx_runS (As := [.long (a2.toInt64), .long (0 : Int64), .long (4 : Int64)]) (rest := []) hC.fix (w_X9_in hlt hw) (va_cwS 3 hts (lw_S q1894 q1895 q83 q1896) rfl rfl rfl dd_X9_in ⟨Nat.le_of_ble_eq_true rfl, Nat.le_of_ble_eq_true rfl⟩) (z_preS hC hZ) rfl rfl hl.1 rfl (lv_room (Nat.zero_le _)) dX9_operand_18 ⟨hk, hn⟩) (fun r15 M H locs hw1 hZ => ?_) (fun q M H locs ci fs E T9 N9 hw hZ hc1 hM1 hb1 => False.elim hw)
    replace hw := hw1
    clear hw1
    refine W.cs (cells' := cells) (slots' := slots) rfl rfl ?_
    refine lv_if_eq (tgt := 33) hx hb dX9_operand_21 (by decide) (fun c21 => ?_) (fun c21 => ?_)
    · replace hw := hw.1 c21
      exact wk_X9_operand_L33 hG _ hk hn hZ (lv_sub hl [] rfl) hw
    · replace hw := hw.2 c21
      refine lv_iload_n hx hb dX9_operand_24 rfl (lv_at hl 1 rfl) ?_
      refine lv_iload_n hx hb dX9_operand_25 rfl (lv_at hl 2 rfl) ?_
      refine lv_iload_n hx hb dX9_operand_26 rfl (lv_at hl 3 rfl) ?_
      refine z_callL hZ (vx_runS (As := [.int a0, .int a1, .int a2]) (rest := []) hC.fix (w_X9_operandOf hlt hw) (va_cwS 3 hts (lw_S q1898 q1899 q83 q1900) rfl rfl rfl dd_X9_operandOf ⟨Nat.le_of_ble_eq_true rfl, Nat.le_of_ble_eq_true rfl⟩) (z_preS hC hZ) rfl rfl hl.1 rfl (lv_room (Nat.zero_le _)) dX9_operand_27 ⟨hk, hn⟩) (fun r18 M H locs hw1 hZ => ?_) (fun q M H locs ci fs E T9 N9 hw hZ hc1 hM1 hb1 => False.elim hw)
      replace hw := hw1
      clear hw1
      refine W.cs (cells' := cells) (slots' := slots) rfl rfl ?_
      refine lv_goto (tgt := 36) hx hb dX9_operand_30 (by decide) ?_
      exact wk_X9_operand_L36 hG _ _ hk hn hZ (lv_sub hl [] rfl) hw
abbrev rm_X9_out : Room := { frames := 2, cells := 0, slots := 0, locals := 89 }
def wp_X9_out_L27 (D : zD) (post : Int32 → zM → Prop) (o : Nat) (y0 : Int32) (M : zM) : Prop :=
    post y0 M
set_option maxHeartbeats 4000000 in
set_option maxRecDepth 100000 in
theorem wk_X9_out_L27 {p : Program} {l : Launch} {e : Env} {s : State} {m : MethodId} {args : Array Value} {below : List Frame} {meth : Method} {c : Code} {D : zD} {post : Int32 → zM → Prop} {o : Nat} (hG : zGx p l s m args meth c cX9_out 2 "PluralBranchesModel" D (some .int) "out" []) : ∀ {H : Heap} {locs : List Loc} {cells slots : Nat} {ls : Array Slot} (y0 : Int32) (M : zM), cells ≤ 0 → slots ≤ 0 → zS D M H locs → lv_has ls 2 [] → wp_X9_out_L27 D post o y0 M → W p l e rm_X9_out s m args below meth c H locs cells slots (vx_MQ below (zQ D zI post) (zX D (fun _ _ => False)) args s 0 0 (zA D)) (F0 m 27 ls [.int y0]) := by
  have hC := hG.1
  have hx := hC.x
  have hb := hC.b
  have hown := hC.o
  have hts := hC.ts
  have hlt := hG.2.2.2.2.2
  intro H locs cells slots ls y0 M hk hn hZ hl hw
  exact z_iret hG hZ hk hn hw dX9_out_27
def wp_X9_out (D : zD) (post : Int32 → zM → Prop) (o : Nat) (a0 : Int32) (M : zM) : Prop :=
    (zgI M o 8 46 fun g1 => (wp_X9_in D (fun r2 M => ((r2 = 0 → wp_X9_out_L27 D post o (-2 : Int32) M) ∧ (¬ r2 = 0 → (zgR M o 8 45 fun g5 => ((zd g5 fun b6 => zaI M b6 0 a0 fun v7 => wp_X9_out_L27 D post o v7 M)))))) (a0.toInt64) (0 : Int64) ((g1 - (1 : Int32)).toInt64) M))
set_option maxHeartbeats 4000000 in
set_option maxRecDepth 100000 in
theorem w_X9_out {l : Launch} {D : zD} {post : Int32 → zM → Prop} (hlt : l.stackTraces = false) {o : Nat} {a0 : Int32} {M : zM} (hw : wp_X9_out D post o a0 M) : zMet l D yX9_out (ws_ yX9_out cX9_out 2 (some .int)) rm_X9_out 0 0 [.ref o, .int a0] M zI post (fun _ _ => False) := by
  unfold wp_X9_out at hw
  have hlv : lv_args 0 [.ref o, .int a0] = [(0, .ref o), (1, .int a0)] := (zargs1 rfl (zargs1 rfl rfl))
  refine z_ofW hlt (by decide) (Nat.le_trans (zsl1 rfl (zsl1 rfl (Nat.le_refl 0 : (lg_sl []).length ≤ 0))) (Nat.le_of_ble_eq_true rfl)) hlv ?_
  intro p e s m args below meth c ls hG hZ hl
  have hC := hG.1
  have hx := hC.x
  have hb := hC.b
  have hown := hC.o
  have hts := hC.ts
  have hlt := hG.2.2.2.2.2
  obtain ⟨cells, hce⟩ : ∃ z : Nat, z = 0 := ⟨0, rfl⟩
  obtain ⟨slots, hsl⟩ : ∃ z : Nat, z = 0 := ⟨0, rfl⟩
  refine W.cs (cells' := cells) (slots' := slots) hce.symm hsl.symm ?_
  have hk : cells ≤ 0 := Nat.le_of_eq hce
  have hn : slots ≤ 0 := Nat.le_of_eq hsl
  clear hce hsl
  refine lv_iload_n hx hb dX9_out_0 rfl (lv_at hl 1 rfl) ?_
  refine lv_i2l hx hb dX9_out_1 rfl ?_
  refine lv_lconst (v := 0) hx hb dX9_out_2 (by decide) ?_
  refine lv_aload_n hx hb dX9_out_3 rfl (lv_at hl 0 rfl) ?_
  obtain ⟨fs0, g9, hM0, hx0, hw⟩ := hw
  refine z_get hC hZ hM0 zc8 46 (by decide) q1766 (fun _ h9 => h9) hx0 dX9_out_4 ?_
  refine lv_iconst (v := 1) hx hb dX9_out_7 (by decide) ?_
  refine lv_isub hx hb dX9_out_8 ?_
  refine lv_i2l hx hb dX9_out_9 rfl ?_
  refine z_callI hZ (vx_runS (As := [.long (a0.toInt64), .long (0 : Int64), .long ((g9 - (1 : Int32)).toInt64)]) (rest := []) hC.fix (w_X9_in hlt hw) (va_cwS 3 hts (lw_S q1894 q1895 q83 q1896) rfl rfl rfl dd_X9_in ⟨Nat.le_of_ble_eq_true rfl, Nat.le_of_ble_eq_true rfl⟩) (z_preS hC hZ) rfl rfl hl.1 rfl (lv_room (Nat.zero_le _)) dX9_out_10 ⟨hk, hn⟩) (fun r10 M H locs hw1 hZ => ?_) (fun q M H locs ci fs E T9 N9 hw hZ hc1 hM1 hb1 => False.elim hw)
  replace hw := hw1
  clear hw1
  refine W.cs (cells' := cells) (slots' := slots) rfl rfl ?_
  refine lv_if_eq (tgt := 25) hx hb dX9_out_13 (by decide) (fun c16 => ?_) (fun c16 => ?_)
  · replace hw := hw.1 c16
    refine lv_bipush (v := (-2)) hx hb dX9_out_25 (by decide) ?_
    exact wk_X9_out_L27 hG _ _ hk hn hZ (lv_sub hl [] rfl) hw
  · replace hw := hw.2 c16
    refine lv_aload_n hx hb dX9_out_16 rfl (lv_at hl 0 rfl) ?_
    obtain ⟨fs0, g13, hM0, hx0, hw⟩ := hw
    refine z_get hC hZ hM0 zc8 45 (by decide) q1765 (fun _ h9 => h9) hx0 dX9_out_17 ?_
    refine lv_iload_n hx hb dX9_out_20 rfl (lv_at hl 1 rfl) ?_
    obtain ⟨b14, hr0, hw⟩ := hw
    subst hr0
    obtain ⟨n0, f0, hM0, hi0, hw⟩ := hw
    refine z_iald hC hZ hM0 hi0 dX9_out_21 ?_
    generalize f0 _ = v15 at hw ⊢
    refine lv_goto (tgt := 27) hx hb dX9_out_22 (by decide) ?_
    exact wk_X9_out_L27 hG _ _ hk hn hZ (lv_sub hl [] rfl) hw
abbrev rm_X9_plain : Room := { frames := 1, cells := 0, slots := 0, locals := 64 }
def wp_X9_plain (D : zD) (post : Int32 → zM → Prop) (o : Nat) (M : zM) : Prop :=
    (zgI M o 8 0 fun g1 => (zp D M o 8 0 (.int (0 : Int32)) fun M => post g1 M))
set_option maxHeartbeats 4000000 in
set_option maxRecDepth 100000 in
theorem w_X9_plain {l : Launch} {D : zD} {post : Int32 → zM → Prop} (hlt : l.stackTraces = false) {o : Nat} {M : zM} (hw : wp_X9_plain D post o M) : zMet l D yX9_plain (ws_ yX9_plain cX9_plain 2 (some .int)) rm_X9_plain 0 0 [.ref o] M zI post (fun _ _ => False) := by
  unfold wp_X9_plain at hw
  have hlv : lv_args 0 [.ref o] = [(0, .ref o)] := (zargs1 rfl rfl)
  refine z_ofW hlt (by decide) (Nat.le_trans (zsl1 rfl (Nat.le_refl 0 : (lg_sl []).length ≤ 0)) (Nat.le_of_ble_eq_true rfl)) hlv ?_
  intro p e s m args below meth c ls hG hZ hl
  have hC := hG.1
  have hx := hC.x
  have hb := hC.b
  have hown := hC.o
  have hts := hC.ts
  have hlt := hG.2.2.2.2.2
  obtain ⟨cells, hce⟩ : ∃ z : Nat, z = 0 := ⟨0, rfl⟩
  obtain ⟨slots, hsl⟩ : ∃ z : Nat, z = 0 := ⟨0, rfl⟩
  refine W.cs (cells' := cells) (slots' := slots) hce.symm hsl.symm ?_
  have hk : cells ≤ 0 := Nat.le_of_eq hce
  have hn : slots ≤ 0 := Nat.le_of_eq hsl
  clear hce hsl
  refine lv_aload_n hx hb dX9_plain_0 rfl (lv_at hl 0 rfl) ?_
  obtain ⟨fs0, g3, hM0, hx0, hw⟩ := hw
  refine z_get hC hZ hM0 zc8 0 (by decide) q1720 (fun _ h9 => h9) hx0 dX9_plain_1 ?_
  refine lv_istore_n (i := 1) (lv' := [(1, .int g3), (0, .ref o)]) hx hb dX9_plain_4 rfl hl (by decide) rfl (fun ls hl1 => ?_)
  replace hl := hl1
  clear hl1
  refine lv_aload_n hx hb dX9_plain_5 rfl (lv_at hl 1 rfl) ?_
  refine lv_iconst (v := 0) hx hb dX9_plain_6 (by decide) ?_
  obtain ⟨fs0, hM0, hb0, hk0, hw⟩ := hw
  refine z_put hC hZ hM0 hb0 zc8 0 (by decide) q1720 (fun _ h9 => h9) (by decide) rfl rfl hk0 dX9_plain_7 (fun H locs hZ => ?_)
  generalize zu M _ _ = M at hw hZ
  refine lv_iload_n hx hb dX9_plain_10 rfl (lv_at hl 0 rfl) ?_
  exact z_iret hG hZ hk hn hw dX9_plain_11
abbrev rm_X9_puts : Room := { frames := 1, cells := 0, slots := 0, locals := 64 }
def wp_X9_puts_L10 (D : zD) (post : Int32 → zM → Prop) (o : Nat) : Nat → Int32 → zM → Prop
  | 0 => fun _ _ => False
  | f + 1 => fun x1 M =>
    (zgI M o 8 46 fun g1 => ((g1 ≤ x1 → (zgI M o 8 46 fun g2 => post g2 M)) ∧ (¬ g1 ≤ x1 → (zgR M o 8 45 fun g3 => (zgR M o 8 47 fun g4 => ((zd g4 fun b5 => zaI M b5 0 x1 fun v6 => ((zd g3 fun b7 => zsI D M b7 x1 v6 fun M => wp_X9_puts_L10 D post o f (x1 + 1) M)))))))))
set_option maxHeartbeats 4000000 in
set_option maxRecDepth 100000 in
theorem wk_X9_puts_L10 {p : Program} {l : Launch} {e : Env} {s : State} {m : MethodId} {args : Array Value} {below : List Frame} {meth : Method} {c : Code} {D : zD} {post : Int32 → zM → Prop} {o : Nat} (hG : zGx p l s m args meth c cX9_puts 2 "PluralBranchesModel" D (some .int) "puts" []) : ∀ (f : Nat), ∀ {H : Heap} {locs : List Loc} {cells slots : Nat} {ls : Array Slot} (x1 : Int32) (M : zM), cells ≤ 0 → slots ≤ 0 → zS D M H locs → lv_has ls 2 [(0, .ref o), (1, .int x1)] → wp_X9_puts_L10 D post o f x1 M → W p l e rm_X9_puts s m args below meth c H locs cells slots (vx_MQ below (zQ D zI post) (zX D (fun _ _ => False)) args s 0 0 (zA D)) (F0 m 10 ls []) := by
  have hC := hG.1
  have hx := hC.x
  have hb := hC.b
  have hown := hC.o
  have hts := hC.ts
  have hlt := hG.2.2.2.2.2
  intro f
  induction f with
  | zero =>
    intro H locs cells slots ls x1 M hk hn hZ hl hw
    exact absurd hw (fun h => h)
  | succ f ih =>
    intro H locs cells slots ls x1 M hk hn hZ hl hw
    refine lv_iload_n hx hb dX9_puts_10 rfl (lv_at hl 1 rfl) ?_
    refine lv_aload_n hx hb dX9_puts_11 rfl (lv_at hl 0 rfl) ?_
    obtain ⟨fs0, g9, hM0, hx0, hw⟩ := hw
    refine z_get hC hZ hM0 zc8 46 (by decide) q1766 (fun _ h9 => h9) hx0 dX9_puts_12 ?_
    refine lv_icmp_ge (tgt := 36) hx hb dX9_puts_15 (by decide) (fun c16 => ?_) (fun c16 => ?_)
    · replace hw := hw.1 c16
      refine lv_aload_n hx hb dX9_puts_36 rfl (lv_at hl 0 rfl) ?_
      obtain ⟨fs0, g10, hM0, hx0, hw⟩ := hw
      refine z_get hC hZ hM0 zc8 46 (by decide) q1766 (fun _ h9 => h9) hx0 dX9_puts_37 ?_
      exact z_iret hG hZ hk hn hw dX9_puts_40
    · replace hw := hw.2 c16
      refine lv_aload_n hx hb dX9_puts_18 rfl (lv_at hl 0 rfl) ?_
      obtain ⟨fs0, g11, hM0, hx0, hw⟩ := hw
      refine z_get hC hZ hM0 zc8 45 (by decide) q1765 (fun _ h9 => h9) hx0 dX9_puts_19 ?_
      refine lv_iload_n hx hb dX9_puts_22 rfl (lv_at hl 1 rfl) ?_
      refine lv_aload_n hx hb dX9_puts_23 rfl (lv_at hl 0 rfl) ?_
      obtain ⟨fs0, g12, hM0, hx0, hw⟩ := hw
      refine z_get hC hZ hM0 zc8 47 (by decide) q1767 (fun _ h9 => h9) hx0 dX9_puts_24 ?_
      refine lv_iload_n hx hb dX9_puts_27 rfl (lv_at hl 1 rfl) ?_
      obtain ⟨b13, hr0, hw⟩ := hw
      subst hr0
      obtain ⟨n0, f0, hM0, hi0, hw⟩ := hw
      refine z_iald hC hZ hM0 hi0 dX9_puts_28 ?_
      generalize f0 _ = v14 at hw ⊢
      obtain ⟨b15, hr0, hw⟩ := hw
      subst hr0
      obtain ⟨n0, f0, hM0, hb0, hi0, hw⟩ := hw
      refine z_iast hC hZ hM0 hb0 hi0 dX9_puts_29 (fun H locs hZ => ?_)
      generalize zu M _ _ = M at hw hZ
      refine lv_iinc (v := (x1 + 1)) (lv' := [(1, .int (x1 + 1)), (0, .ref o)]) hx hb dX9_puts_30 hl (k := 1) rfl rfl (by decide) rfl (fun ls hl1 => ?_)
      replace hl := hl1
      clear hl1
      refine lv_goto (tgt := 10) hx hb dX9_puts_33 (by decide) ?_
      exact ih _ _ hk hn hZ (lv_sub hl [1, 0] rfl) hw
def wp_X9_puts (D : zD) (post : Int32 → zM → Prop) (o : Nat) (M : zM) : Prop :=
    (zgI M o 8 48 fun g17 => (zp D M o 8 46 (.int g17) fun M => (∃ f, wp_X9_puts_L10 D post o f (0 : Int32) M)))
set_option maxHeartbeats 4000000 in
set_option maxRecDepth 100000 in
theorem w_X9_puts {l : Launch} {D : zD} {post : Int32 → zM → Prop} (hlt : l.stackTraces = false) {o : Nat} {M : zM} (hw : wp_X9_puts D post o M) : zMet l D yX9_puts (ws_ yX9_puts cX9_puts 2 (some .int)) rm_X9_puts 0 0 [.ref o] M zI post (fun _ _ => False) := by
  unfold wp_X9_puts at hw
  have hlv : lv_args 0 [.ref o] = [(0, .ref o)] := (zargs1 rfl rfl)
  refine z_ofW hlt (by decide) (Nat.le_trans (zsl1 rfl (Nat.le_refl 0 : (lg_sl []).length ≤ 0)) (Nat.le_of_ble_eq_true rfl)) hlv ?_
  intro p e s m args below meth c ls hG hZ hl
  have hC := hG.1
  have hx := hC.x
  have hb := hC.b
  have hown := hC.o
  have hts := hC.ts
  have hlt := hG.2.2.2.2.2
  obtain ⟨cells, hce⟩ : ∃ z : Nat, z = 0 := ⟨0, rfl⟩
  obtain ⟨slots, hsl⟩ : ∃ z : Nat, z = 0 := ⟨0, rfl⟩
  refine W.cs (cells' := cells) (slots' := slots) hce.symm hsl.symm ?_
  have hk : cells ≤ 0 := Nat.le_of_eq hce
  have hn : slots ≤ 0 := Nat.le_of_eq hsl
  clear hce hsl
  refine lv_aload_n hx hb dX9_puts_0 rfl (lv_at hl 0 rfl) ?_
  refine lv_aload_n hx hb dX9_puts_1 rfl (lv_at hl 0 rfl) ?_
  obtain ⟨fs0, g19, hM0, hx0, hw⟩ := hw
  refine z_get hC hZ hM0 zc8 48 (by decide) q1768 (fun _ h9 => h9) hx0 dX9_puts_2 ?_
  obtain ⟨fs0, hM0, hb0, hk0, hw⟩ := hw
  refine z_put hC hZ hM0 hb0 zc8 46 (by decide) q1766 (fun _ h9 => h9) (by decide) rfl rfl hk0 dX9_puts_5 (fun H locs hZ => ?_)
  generalize zu M _ _ = M at hw hZ
  refine lv_iconst (v := 0) hx hb dX9_puts_8 (by decide) ?_
  refine lv_istore_n (i := 1) (lv' := [(1, .int (0 : Int32)), (0, .ref o)]) hx hb dX9_puts_9 rfl hl (by decide) rfl (fun ls hl1 => ?_)
  replace hl := hl1
  clear hl1
  obtain ⟨f1, hw⟩ := hw
  exact wk_X9_puts_L10 hG f1 _ _ hk hn hZ (lv_sub hl [1, 0] rfl) hw
abbrev rm_X9_ratio : Room := { frames := 3, cells := 0, slots := 0, locals := 111 }
def wp_X9_ratio (D : zD) (post : Int32 → zM → Prop) (o : Nat) (a0 : Int32) (a1 : Int32) (a2 : Int32) (a3 : Int32) (M : zM) : Prop :=
    (wp_X9_isRow D (fun r1 M => ((¬ r1 = 0 → (zgR M o 8 51 fun g4 => ((zd g4 fun b5 => zaI M b5 0 a0 fun v6 => ((0 ≤ v6 → ((zis M o [8] ∧ wp_X9_isThere D (fun r7 M => ((¬ r7 = 0 → ((¬ a3 = 0 → (zgR M o 8 53 fun g10 => (vf_n32 (FP.fdiv (FP.i2f a2) (FP.i2f a3)) ∧ ((zd g10 fun b11 => zsF D M b11 (((30 : Int32) * a0) + a1) (FP.fdiv (FP.i2f a2) (FP.i2f a3)) fun M => (zgR M o 8 54 fun g12 => (vf_n64 (FP.ddiv (FP.i2d a2) (FP.i2d a3)) ∧ ((zd g12 fun b13 => zsD D M b13 (((30 : Int32) * a0) + a1) (FP.ddiv (FP.i2d a2) (FP.i2d a3)) fun M => (zgR M o 8 55 fun g14 => (¬ (a3.toInt64) = 0 ∧ ((zd g14 fun b15 => zsL D M b15 (((30 : Int32) * a0) + a1) ((a2.toInt64) / (a3.toInt64)) fun M => post (1 : Int32) M))))))))))))) ∧ (a3 = 0 → post (-15 : Int32) M))) ∧ (r7 = 0 → post (-12 : Int32) M))) o a0 a1 M))) ∧ (¬ 0 ≤ v6 → post (-11 : Int32) M)))))) ∧ (r1 = 0 → post (-1 : Int32) M))) a0 M)
set_option maxHeartbeats 4000000 in
set_option maxRecDepth 100000 in
theorem w_X9_ratio {l : Launch} {D : zD} {post : Int32 → zM → Prop} (hlt : l.stackTraces = false) {o : Nat} {a0 : Int32} {a1 : Int32} {a2 : Int32} {a3 : Int32} {M : zM} (hw : wp_X9_ratio D post o a0 a1 a2 a3 M) : zMet l D yX9_ratio (ws_ yX9_ratio cX9_ratio 5 (some .int)) rm_X9_ratio 0 0 [.ref o, .int a0, .int a1, .int a2, .int a3] M zI post (fun _ _ => False) := by
  unfold wp_X9_ratio at hw
  have hlv : lv_args 0 [.ref o, .int a0, .int a1, .int a2, .int a3] = [(0, .ref o), (1, .int a0), (2, .int a1), (3, .int a2), (4, .int a3)] := (zargs1 rfl (zargs1 rfl (zargs1 rfl (zargs1 rfl (zargs1 rfl rfl)))))
  refine z_ofW hlt (by decide) (Nat.le_trans (zsl1 rfl (zsl1 rfl (zsl1 rfl (zsl1 rfl (zsl1 rfl (Nat.le_refl 0 : (lg_sl []).length ≤ 0)))))) (Nat.le_of_ble_eq_true rfl)) hlv ?_
  intro p e s m args below meth c ls hG hZ hl
  have hC := hG.1
  have hx := hC.x
  have hb := hC.b
  have hown := hC.o
  have hts := hC.ts
  have hlt := hG.2.2.2.2.2
  obtain ⟨cells, hce⟩ : ∃ z : Nat, z = 0 := ⟨0, rfl⟩
  obtain ⟨slots, hsl⟩ : ∃ z : Nat, z = 0 := ⟨0, rfl⟩
  refine W.cs (cells' := cells) (slots' := slots) hce.symm hsl.symm ?_
  have hk : cells ≤ 0 := Nat.le_of_eq hce
  have hn : slots ≤ 0 := Nat.le_of_eq hsl
  clear hce hsl
  refine lv_iload_n hx hb dX9_ratio_0 rfl (lv_at hl 1 rfl) ?_
  refine z_callI hZ (vx_runS (As := [.int a0]) (rest := []) hC.fix (w_X9_isRow hlt hw) (va_cwS 1 hts (lw_S q2214 q2215 q83 q2216) rfl rfl rfl dd_X9_isRow ⟨Nat.le_of_ble_eq_true rfl, Nat.le_of_ble_eq_true rfl⟩) (z_preS hC hZ) rfl rfl hl.1 rfl (lv_room (Nat.zero_le _)) dX9_ratio_1 ⟨hk, hn⟩) (fun r20 M H locs hw1 hZ => ?_) (fun q M H locs ci fs E T9 N9 hw hZ hc1 hM1 hb1 => False.elim hw)
  replace hw := hw1
  clear hw1
  refine W.cs (cells' := cells) (slots' := slots) rfl rfl ?_
  refine lv_if_ne (tgt := 9) hx hb dX9_ratio_4 (by decide) (fun c38 => ?_) (fun c38 => ?_)
  · replace hw := hw.1 c38
    refine lv_aload_n hx hb dX9_ratio_9 rfl (lv_at hl 0 rfl) ?_
    obtain ⟨fs0, g23, hM0, hx0, hw⟩ := hw
    refine z_get hC hZ hM0 zc8 51 (by decide) q1771 (fun _ h9 => h9) hx0 dX9_ratio_10 ?_
    refine lv_iload_n hx hb dX9_ratio_13 rfl (lv_at hl 1 rfl) ?_
    obtain ⟨b24, hr0, hw⟩ := hw
    subst hr0
    obtain ⟨n0, f0, hM0, hi0, hw⟩ := hw
    refine z_iald hC hZ hM0 hi0 dX9_ratio_14 ?_
    generalize f0 _ = v25 at hw ⊢
    refine lv_if_ge (tgt := 21) hx hb dX9_ratio_15 (by decide) (fun c37 => ?_) (fun c37 => ?_)
    · replace hw := hw.1 c37
      refine lv_aload_n hx hb dX9_ratio_21 rfl (lv_at hl 0 rfl) ?_
      refine lv_iload_n hx hb dX9_ratio_22 rfl (lv_at hl 1 rfl) ?_
      refine lv_iload_n hx hb dX9_ratio_23 rfl (lv_at hl 2 rfl) ?_
      obtain ⟨⟨ci0, fs0, hci0, hM0⟩, hw⟩ := hw
      obtain rfl : ci0 = 8 := List.mem_singleton.mp hci0
      refine z_callI hZ (vx_runV (As := [.int a0, .int a1]) (rest := []) hC.fix (w_X9_isThere hlt hw) (cwV 2 hts (lw_V q2222 q2224 qs65 q83 q2225) rfl rfl rfl ⟨rfl, dd_X9_isThere⟩ ⟨Nat.le_of_ble_eq_true rfl, Nat.le_of_ble_eq_true rfl⟩) (z_preV hC hZ hM0 zc8) rfl rfl hl.1 rfl (lv_room (Nat.zero_le _)) dX9_ratio_24 ⟨hk, hn⟩) (fun r26 M H locs hw1 hZ => ?_) (fun q M H locs ci fs E T9 N9 hw hZ hc1 hM1 hb1 => False.elim hw)
      replace hw := hw1
      clear hw1
      refine W.cs (cells' := cells) (slots' := slots) rfl rfl ?_
      refine lv_if_ne (tgt := 33) hx hb dX9_ratio_27 (by decide) (fun c36 => ?_) (fun c36 => ?_)
      · replace hw := hw.1 c36
        refine lv_iload hx hb dX9_ratio_33 (lv_at hl 4 rfl) ?_
        refine lv_if_ne (tgt := 41) hx hb dX9_ratio_35 (by decide) (fun c35 => ?_) (fun c35 => ?_)
        · replace hw := hw.1 c35
          refine lv_aload_n hx hb dX9_ratio_41 rfl (lv_at hl 0 rfl) ?_
          obtain ⟨fs0, g29, hM0, hx0, hw⟩ := hw
          refine z_get hC hZ hM0 zc8 53 (by decide) q1773 (fun _ h9 => h9) hx0 dX9_ratio_42 ?_
          refine lv_bipush (v := 30) hx hb dX9_ratio_45 (by decide) ?_
          refine lv_iload_n hx hb dX9_ratio_47 rfl (lv_at hl 1 rfl) ?_
          refine lv_imul hx hb dX9_ratio_48 ?_
          refine lv_iload_n hx hb dX9_ratio_49 rfl (lv_at hl 2 rfl) ?_
          refine lv_iadd hx hb dX9_ratio_50 ?_
          refine lv_iload_n hx hb dX9_ratio_51 rfl (lv_at hl 3 rfl) ?_
          refine lv_i2f hx hb dX9_ratio_52 ?_
          refine lv_iload hx hb dX9_ratio_53 (lv_at hl 4 rfl) ?_
          refine lv_i2f hx hb dX9_ratio_55 ?_
          obtain ⟨hnf, hw⟩ := hw
          refine lv_fdiv hx hb dX9_ratio_56 hnf ?_
          obtain ⟨b30, hr0, hw⟩ := hw
          subst hr0
          obtain ⟨n0, f0, hM0, hb0, hi0, hw⟩ := hw
          refine z_fast hC hZ hM0 hb0 hi0 dX9_ratio_57 (fun H locs hZ => ?_)
          generalize zu M _ _ = M at hw hZ
          refine lv_aload_n hx hb dX9_ratio_58 rfl (lv_at hl 0 rfl) ?_
          obtain ⟨fs0, g31, hM0, hx0, hw⟩ := hw
          refine z_get hC hZ hM0 zc8 54 (by decide) q1774 (fun _ h9 => h9) hx0 dX9_ratio_59 ?_
          refine lv_bipush (v := 30) hx hb dX9_ratio_62 (by decide) ?_
          refine lv_iload_n hx hb dX9_ratio_64 rfl (lv_at hl 1 rfl) ?_
          refine lv_imul hx hb dX9_ratio_65 ?_
          refine lv_iload_n hx hb dX9_ratio_66 rfl (lv_at hl 2 rfl) ?_
          refine lv_iadd hx hb dX9_ratio_67 ?_
          refine lv_iload_n hx hb dX9_ratio_68 rfl (lv_at hl 3 rfl) ?_
          refine lv_i2d hx hb dX9_ratio_69 ?_
          refine lv_iload hx hb dX9_ratio_70 (lv_at hl 4 rfl) ?_
          refine lv_i2d hx hb dX9_ratio_72 ?_
          obtain ⟨hnf, hw⟩ := hw
          refine lv_ddiv hx hb dX9_ratio_73 hnf ?_
          obtain ⟨b32, hr0, hw⟩ := hw
          subst hr0
          obtain ⟨n0, f0, hM0, hb0, hi0, hw⟩ := hw
          refine z_dast hC hZ hM0 hb0 hi0 dX9_ratio_74 (fun H locs hZ => ?_)
          generalize zu M _ _ = M at hw hZ
          refine lv_aload_n hx hb dX9_ratio_75 rfl (lv_at hl 0 rfl) ?_
          obtain ⟨fs0, g33, hM0, hx0, hw⟩ := hw
          refine z_get hC hZ hM0 zc8 55 (by decide) q1775 (fun _ h9 => h9) hx0 dX9_ratio_76 ?_
          refine lv_bipush (v := 30) hx hb dX9_ratio_79 (by decide) ?_
          refine lv_iload_n hx hb dX9_ratio_81 rfl (lv_at hl 1 rfl) ?_
          refine lv_imul hx hb dX9_ratio_82 ?_
          refine lv_iload_n hx hb dX9_ratio_83 rfl (lv_at hl 2 rfl) ?_
          refine lv_iadd hx hb dX9_ratio_84 ?_
          refine lv_iload_n hx hb dX9_ratio_85 rfl (lv_at hl 3 rfl) ?_
          refine lv_i2l hx hb dX9_ratio_86 rfl ?_
          refine lv_iload hx hb dX9_ratio_87 (lv_at hl 4 rfl) ?_
          refine lv_i2l hx hb dX9_ratio_89 rfl ?_
          obtain ⟨hz0, hw⟩ := hw
          refine lv_ldiv hx hb dX9_ratio_90 hz0 ?_
          obtain ⟨b34, hr0, hw⟩ := hw
          subst hr0
          obtain ⟨n0, f0, hM0, hb0, hi0, hw⟩ := hw
          refine z_last hC hZ hM0 hb0 hi0 dX9_ratio_91 (fun H locs hZ => ?_)
          generalize zu M _ _ = M at hw hZ
          refine lv_iconst (v := 1) hx hb dX9_ratio_92 (by decide) ?_
          exact z_iret hG hZ hk hn hw dX9_ratio_93
        · replace hw := hw.2 c35
          refine lv_bipush (v := (-15)) hx hb dX9_ratio_38 (by decide) ?_
          exact z_iret hG hZ hk hn hw dX9_ratio_40
      · replace hw := hw.2 c36
        refine lv_bipush (v := (-12)) hx hb dX9_ratio_30 (by decide) ?_
        exact z_iret hG hZ hk hn hw dX9_ratio_32
    · replace hw := hw.2 c37
      refine lv_bipush (v := (-11)) hx hb dX9_ratio_18 (by decide) ?_
      exact z_iret hG hZ hk hn hw dX9_ratio_20
  · replace hw := hw.2 c38
    refine lv_iconst (v := (-1)) hx hb dX9_ratio_7 (by decide) ?_
    exact z_iret hG hZ hk hn hw dX9_ratio_8
abbrev rm_X9_uses : Room := { frames := 2, cells := 0, slots := 0, locals := 85 }
def wp_X9_uses_L50 (D : zD) (post : Unit → zM → Prop) (o : Nat) (M : zM) : Prop :=
    post () M
set_option maxHeartbeats 4000000 in
set_option maxRecDepth 100000 in
theorem wk_X9_uses_L50 {p : Program} {l : Launch} {e : Env} {s : State} {m : MethodId} {args : Array Value} {below : List Frame} {meth : Method} {c : Code} {D : zD} {post : Unit → zM → Prop} {o : Nat} (hG : zGx p l s m args meth c cX9_uses 4 "PluralBranchesModel" D (none) "uses" []) : ∀ {H : Heap} {locs : List Loc} {cells slots : Nat} {ls : Array Slot} (M : zM), cells ≤ 0 → slots ≤ 0 → zS D M H locs → lv_has ls 4 [] → wp_X9_uses_L50 D post o M → W p l e rm_X9_uses s m args below meth c H locs cells slots (vx_MQ below (zQ D zU post) (zX D (fun _ _ => False)) args s 0 0 (zA D)) (F0 m 50 ls []) := by
  have hC := hG.1
  have hx := hC.x
  have hb := hC.b
  have hown := hC.o
  have hts := hC.ts
  have hlt := hG.2.2.2.2.2
  intro H locs cells slots ls M hk hn hZ hl hw
  exact z_vret hG hZ hk hn hw dX9_uses_50
def wp_X9_uses (D : zD) (post : Unit → zM → Prop) (o : Nat) (a0 : Int32) (a1 : Int32) (a2 : Int32) (M : zM) : Prop :=
    (zgI M o 8 27 fun g1 => (zp D M o 8 27 (.int (g1 ||| ((1 : Int32) <<< (a0 &&& 31)))) fun M => ((a2 = 0 → wp_X9_uses_L50 D post o M) ∧ (¬ a2 = 0 → (zgR M o 8 29 fun g2 => ((zd g2 fun b3 => zaI M b3 0 a0 fun v4 => ((¬ v4 = 0 → (zgR M o 8 29 fun g5 => ((zd g5 fun b6 => zaI M b6 0 a0 fun v7 => ((v7 = a2 → wp_X9_uses_L50 D post o M) ∧ (¬ v7 = a2 → ((zis M o [8] ∧ wp_X9_isWrong D (fun _ M => wp_X9_uses_L50 D post o M) o a1 M)))))))) ∧ (v4 = 0 → (zgR M o 8 29 fun g12 => ((zd g12 fun b13 => zsI D M b13 a0 a2 fun M => wp_X9_uses_L50 D post o M))))))))))))
set_option maxHeartbeats 4000000 in
set_option maxRecDepth 100000 in
theorem w_X9_uses {l : Launch} {D : zD} {post : Unit → zM → Prop} (hlt : l.stackTraces = false) {o : Nat} {a0 : Int32} {a1 : Int32} {a2 : Int32} {M : zM} (hw : wp_X9_uses D post o a0 a1 a2 M) : zMet l D yX9_uses (ws_ yX9_uses cX9_uses 4 (none)) rm_X9_uses 0 0 [.ref o, .int a0, .int a1, .int a2] M zU post (fun _ _ => False) := by
  unfold wp_X9_uses at hw
  have hlv : lv_args 0 [.ref o, .int a0, .int a1, .int a2] = [(0, .ref o), (1, .int a0), (2, .int a1), (3, .int a2)] := (zargs1 rfl (zargs1 rfl (zargs1 rfl (zargs1 rfl rfl))))
  refine z_ofW hlt (by decide) (Nat.le_trans (zsl1 rfl (zsl1 rfl (zsl1 rfl (zsl1 rfl (Nat.le_refl 0 : (lg_sl []).length ≤ 0))))) (Nat.le_of_ble_eq_true rfl)) hlv ?_
  intro p e s m args below meth c ls hG hZ hl
  have hC := hG.1
  have hx := hC.x
  have hb := hC.b
  have hown := hC.o
  have hts := hC.ts
  have hlt := hG.2.2.2.2.2
  obtain ⟨cells, hce⟩ : ∃ z : Nat, z = 0 := ⟨0, rfl⟩
  obtain ⟨slots, hsl⟩ : ∃ z : Nat, z = 0 := ⟨0, rfl⟩
  refine W.cs (cells' := cells) (slots' := slots) hce.symm hsl.symm ?_
  have hk : cells ≤ 0 := Nat.le_of_eq hce
  have hn : slots ≤ 0 := Nat.le_of_eq hsl
  clear hce hsl
  refine lv_aload_n hx hb dX9_uses_0 rfl (lv_at hl 0 rfl) ?_
  refine lv_dup hx hb dX9_uses_1 rfl ?_
  obtain ⟨fs0, g17, hM0, hx0, hw⟩ := hw
  refine z_get hC hZ hM0 zc8 27 (by decide) q1747 (fun _ h9 => h9) hx0 dX9_uses_2 ?_
  refine lv_iconst (v := 1) hx hb dX9_uses_5 (by decide) ?_
  refine lv_iload_n hx hb dX9_uses_6 rfl (lv_at hl 1 rfl) ?_
  refine lv_ishl hx hb dX9_uses_7 ?_
  refine lv_ior hx hb dX9_uses_8 ?_
  obtain ⟨fs0, hM0, hb0, hk0, hw⟩ := hw
  refine z_put hC hZ hM0 hb0 zc8 27 (by decide) q1747 (fun _ h9 => h9) (by decide) rfl rfl hk0 dX9_uses_9 (fun H locs hZ => ?_)
  generalize zu M _ _ = M at hw hZ
  refine lv_iload_n hx hb dX9_uses_12 rfl (lv_at hl 3 rfl) ?_
  refine lv_if_eq (tgt := 50) hx hb dX9_uses_13 (by decide) (fun c31 => ?_) (fun c31 => ?_)
  · replace hw := hw.1 c31
    exact wk_X9_uses_L50 hG _ hk hn hZ (lv_sub hl [] rfl) hw
  · replace hw := hw.2 c31
    refine lv_aload_n hx hb dX9_uses_16 rfl (lv_at hl 0 rfl) ?_
    obtain ⟨fs0, g18, hM0, hx0, hw⟩ := hw
    refine z_get hC hZ hM0 zc8 29 (by decide) q1749 (fun _ h9 => h9) hx0 dX9_uses_17 ?_
    refine lv_iload_n hx hb dX9_uses_20 rfl (lv_at hl 1 rfl) ?_
    obtain ⟨b19, hr0, hw⟩ := hw
    subst hr0
    obtain ⟨n0, f0, hM0, hi0, hw⟩ := hw
    refine z_iald hC hZ hM0 hi0 dX9_uses_21 ?_
    generalize f0 _ = v20 at hw ⊢
    refine lv_if_ne (tgt := 35) hx hb dX9_uses_22 (by decide) (fun c30 => ?_) (fun c30 => ?_)
    · replace hw := hw.1 c30
      refine lv_aload_n hx hb dX9_uses_35 rfl (lv_at hl 0 rfl) ?_
      obtain ⟨fs0, g21, hM0, hx0, hw⟩ := hw
      refine z_get hC hZ hM0 zc8 29 (by decide) q1749 (fun _ h9 => h9) hx0 dX9_uses_36 ?_
      refine lv_iload_n hx hb dX9_uses_39 rfl (lv_at hl 1 rfl) ?_
      obtain ⟨b22, hr0, hw⟩ := hw
      subst hr0
      obtain ⟨n0, f0, hM0, hi0, hw⟩ := hw
      refine z_iald hC hZ hM0 hi0 dX9_uses_40 ?_
      generalize f0 _ = v23 at hw ⊢
      refine lv_iload_n hx hb dX9_uses_41 rfl (lv_at hl 3 rfl) ?_
      refine lv_icmp_eq (tgt := 50) hx hb dX9_uses_42 (by decide) (fun c27 => ?_) (fun c27 => ?_)
      · replace hw := hw.1 c27
        exact wk_X9_uses_L50 hG _ hk hn hZ (lv_sub hl [] rfl) hw
      · replace hw := hw.2 c27
        refine lv_aload_n hx hb dX9_uses_45 rfl (lv_at hl 0 rfl) ?_
        refine lv_iload_n hx hb dX9_uses_46 rfl (lv_at hl 2 rfl) ?_
        obtain ⟨⟨ci0, fs0, hci0, hM0⟩, hw⟩ := hw
        obtain rfl : ci0 = 8 := List.mem_singleton.mp hci0
        refine z_callU hZ (vx_runV (As := [.int a1]) (rest := []) hC.fix (w_X9_isWrong hlt hw) (cwV 1 hts (lw_V q1989 q1991 qs36 q83 q1992) rfl rfl rfl ⟨rfl, dd_X9_isWrong⟩ ⟨Nat.le_of_ble_eq_true rfl, Nat.le_of_ble_eq_true rfl⟩) (z_preV hC hZ hM0 zc8) rfl rfl hl.1 rfl (lv_room (Nat.zero_le _)) dX9_uses_47 ⟨hk, hn⟩) (fun r24 M H locs hw1 hZ => ?_) (fun q M H locs ci fs E T9 N9 hw hZ hc1 hM1 hb1 => False.elim hw)
        replace hw := hw1
        clear hw1
        refine W.cs (cells' := cells) (slots' := slots) rfl rfl ?_
        exact wk_X9_uses_L50 hG _ hk hn hZ (lv_sub hl [] rfl) hw
    · replace hw := hw.2 c30
      refine lv_aload_n hx hb dX9_uses_25 rfl (lv_at hl 0 rfl) ?_
      obtain ⟨fs0, g28, hM0, hx0, hw⟩ := hw
      refine z_get hC hZ hM0 zc8 29 (by decide) q1749 (fun _ h9 => h9) hx0 dX9_uses_26 ?_
      refine lv_iload_n hx hb dX9_uses_29 rfl (lv_at hl 1 rfl) ?_
      refine lv_iload_n hx hb dX9_uses_30 rfl (lv_at hl 3 rfl) ?_
      obtain ⟨b29, hr0, hw⟩ := hw
      subst hr0
      obtain ⟨n0, f0, hM0, hb0, hi0, hw⟩ := hw
      refine z_iast hC hZ hM0 hb0 hi0 dX9_uses_31 (fun H locs hZ => ?_)
      generalize zu M _ _ = M at hw hZ
      refine lv_goto (tgt := 50) hx hb dX9_uses_32 (by decide) ?_
      exact wk_X9_uses_L50 hG _ hk hn hZ (lv_sub hl [] rfl) hw
abbrev rm_X9_takes : Room := { frames := 2, cells := 0, slots := 0, locals := 84 }
def wp_X9_takes (D : zD) (post : Int32 → zM → Prop) (o : Nat) (a0 : Int32) (M : zM) : Prop :=
    ((zis M o [8] ∧ wp_X9_here D (fun r1 M => ((r1 = a0 → (zgI M o 8 23 fun g4 => (zp D M o 8 23 (.int (g4 + (1 : Int32))) fun M => (narrow .boolean (.int (1 : Int32)) = .int (1 : Int32) ∧ post (1 : Int32) M)))) ∧ (¬ r1 = a0 → (narrow .boolean (.int (0 : Int32)) = .int (0 : Int32) ∧ post (0 : Int32) M)))) o M))
set_option maxHeartbeats 4000000 in
set_option maxRecDepth 100000 in
theorem w_X9_takes {l : Launch} {D : zD} {post : Int32 → zM → Prop} (hlt : l.stackTraces = false) {o : Nat} {a0 : Int32} {M : zM} (hw : wp_X9_takes D post o a0 M) : zMet l D yX9_takes (ws_ yX9_takes cX9_takes 2 (some .boolean)) rm_X9_takes 0 0 [.ref o, .int a0] M zI post (fun _ _ => False) := by
  unfold wp_X9_takes at hw
  have hlv : lv_args 0 [.ref o, .int a0] = [(0, .ref o), (1, .int a0)] := (zargs1 rfl (zargs1 rfl rfl))
  refine z_ofW hlt (by decide) (Nat.le_trans (zsl1 rfl (zsl1 rfl (Nat.le_refl 0 : (lg_sl []).length ≤ 0))) (Nat.le_of_ble_eq_true rfl)) hlv ?_
  intro p e s m args below meth c ls hG hZ hl
  have hC := hG.1
  have hx := hC.x
  have hb := hC.b
  have hown := hC.o
  have hts := hC.ts
  have hlt := hG.2.2.2.2.2
  obtain ⟨cells, hce⟩ : ∃ z : Nat, z = 0 := ⟨0, rfl⟩
  obtain ⟨slots, hsl⟩ : ∃ z : Nat, z = 0 := ⟨0, rfl⟩
  refine W.cs (cells' := cells) (slots' := slots) hce.symm hsl.symm ?_
  have hk : cells ≤ 0 := Nat.le_of_eq hce
  have hn : slots ≤ 0 := Nat.le_of_eq hsl
  clear hce hsl
  refine lv_aload_n hx hb dX9_takes_0 rfl (lv_at hl 0 rfl) ?_
  obtain ⟨⟨ci0, fs0, hci0, hM0⟩, hw⟩ := hw
  obtain rfl : ci0 = 8 := List.mem_singleton.mp hci0
  refine z_callI hZ (vx_runV (As := []) (rest := []) hC.fix (w_X9_here hlt hw) (cwV 0 hts (lw_V q1970 q1972 qs33 q83 q1973) rfl rfl rfl ⟨rfl, dd_X9_here⟩ ⟨Nat.le_of_ble_eq_true rfl, Nat.le_of_ble_eq_true rfl⟩) (z_preV hC hZ hM0 zc8) rfl rfl hl.1 rfl (lv_room (Nat.zero_le _)) dX9_takes_1 ⟨hk, hn⟩) (fun r7 M H locs hw1 hZ => ?_) (fun q M H locs ci fs E T9 N9 hw hZ hc1 hM1 hb1 => False.elim hw)
  replace hw := hw1
  clear hw1
  refine W.cs (cells' := cells) (slots' := slots) rfl rfl ?_
  refine lv_iload_n hx hb dX9_takes_4 rfl (lv_at hl 1 rfl) ?_
  refine lv_icmp_eq (tgt := 10) hx hb dX9_takes_5 (by decide) (fun c12 => ?_) (fun c12 => ?_)
  · replace hw := hw.1 c12
    refine lv_aload_n hx hb dX9_takes_10 rfl (lv_at hl 0 rfl) ?_
    refine lv_dup hx hb dX9_takes_11 rfl ?_
    obtain ⟨fs0, g10, hM0, hx0, hw⟩ := hw
    refine z_get hC hZ hM0 zc8 23 (by decide) q1743 (fun _ h9 => h9) hx0 dX9_takes_12 ?_
    refine lv_iconst (v := 1) hx hb dX9_takes_15 (by decide) ?_
    refine lv_iadd hx hb dX9_takes_16 ?_
    obtain ⟨fs0, hM0, hb0, hk0, hw⟩ := hw
    refine z_put hC hZ hM0 hb0 zc8 23 (by decide) q1743 (fun _ h9 => h9) (by decide) rfl rfl hk0 dX9_takes_17 (fun H locs hZ => ?_)
    generalize zu M _ _ = M at hw hZ
    refine lv_iconst (v := 1) hx hb dX9_takes_20 (by decide) ?_
    exact z_zret hG hZ hk hn hw.1 hw.2 dX9_takes_21
  · replace hw := hw.2 c12
    refine lv_iconst (v := 0) hx hb dX9_takes_8 (by decide) ?_
    exact z_zret hG hZ hk hn hw.1 hw.2 dX9_takes_9
abbrev rm_X9_zeros : Room := { frames := 2, cells := 0, slots := 0, locals := 84 }
def wp_X9_zeros_L31 (D : zD) (post : Int32 → zM → Prop) (o : Nat) (x3 : Int32) (M : zM) : Prop :=
    post x3 M
set_option maxHeartbeats 4000000 in
set_option maxRecDepth 100000 in
theorem wk_X9_zeros_L31 {p : Program} {l : Launch} {e : Env} {s : State} {m : MethodId} {args : Array Value} {below : List Frame} {meth : Method} {c : Code} {D : zD} {post : Int32 → zM → Prop} {o : Nat} (hG : zGx p l s m args meth c cX9_zeros 4 "PluralBranchesModel" D (some .int) "zeros" []) : ∀ {H : Heap} {locs : List Loc} {cells slots : Nat} {ls : Array Slot} (x3 : Int32) (M : zM), cells ≤ 0 → slots ≤ 0 → zS D M H locs → lv_has ls 4 [(3, .int x3)] → wp_X9_zeros_L31 D post o x3 M → W p l e rm_X9_zeros s m args below meth c H locs cells slots (vx_MQ below (zQ D zI post) (zX D (fun _ _ => False)) args s 0 0 (zA D)) (F0 m 31 ls []) := by
  have hC := hG.1
  have hx := hC.x
  have hb := hC.b
  have hown := hC.o
  have hts := hC.ts
  have hlt := hG.2.2.2.2.2
  intro H locs cells slots ls x3 M hk hn hZ hl hw
  refine lv_iload_n hx hb dX9_zeros_31 rfl (lv_at hl 0 rfl) ?_
  exact z_iret hG hZ hk hn hw dX9_zeros_32
def wp_X9_zeros_L2 (D : zD) (post : Int32 → zM → Prop) (o : Nat) : Nat → Int32 → Int32 → Int32 → zM → Prop
  | 0 => fun _ _ _ _ => False
  | f + 1 => fun x1 x2 x3 M =>
    ((x2 ≤ x3 → wp_X9_zeros_L31 D post o x3 M) ∧ (¬ x2 ≤ x3 → ((zis M o [8] ∧ wp_X9_here D (fun r1 M => ((¬ r1 = x1 → wp_X9_zeros_L31 D post o x3 M) ∧ (r1 = x1 → (zgI M o 8 23 fun g4 => (zp D M o 8 23 (.int (g4 + (1 : Int32))) fun M => wp_X9_zeros_L2 D post o f x1 x2 (x3 + 1) M))))) o M))))
set_option maxHeartbeats 4000000 in
set_option maxRecDepth 100000 in
theorem wk_X9_zeros_L2 {p : Program} {l : Launch} {e : Env} {s : State} {m : MethodId} {args : Array Value} {below : List Frame} {meth : Method} {c : Code} {D : zD} {post : Int32 → zM → Prop} {o : Nat} (hG : zGx p l s m args meth c cX9_zeros 4 "PluralBranchesModel" D (some .int) "zeros" []) : ∀ (f : Nat), ∀ {H : Heap} {locs : List Loc} {cells slots : Nat} {ls : Array Slot} (x1 : Int32) (x2 : Int32) (x3 : Int32) (M : zM), cells ≤ 0 → slots ≤ 0 → zS D M H locs → lv_has ls 4 [(0, .ref o), (1, .int x1), (2, .int x2), (3, .int x3)] → wp_X9_zeros_L2 D post o f x1 x2 x3 M → W p l e rm_X9_zeros s m args below meth c H locs cells slots (vx_MQ below (zQ D zI post) (zX D (fun _ _ => False)) args s 0 0 (zA D)) (F0 m 2 ls []) := by
  have hC := hG.1
  have hx := hC.x
  have hb := hC.b
  have hown := hC.o
  have hts := hC.ts
  have hlt := hG.2.2.2.2.2
  intro f
  induction f with
  | zero =>
    intro H locs cells slots ls x1 x2 x3 M hk hn hZ hl hw
    exact absurd hw (fun h => h)
  | succ f ih =>
    intro H locs cells slots ls x1 x2 x3 M hk hn hZ hl hw
    refine lv_iload_n hx hb dX9_zeros_2 rfl (lv_at hl 3 rfl) ?_
    refine lv_iload_n hx hb dX9_zeros_3 rfl (lv_at hl 2 rfl) ?_
    refine lv_icmp_ge (tgt := 31) hx hb dX9_zeros_4 (by decide) (fun c14 => ?_) (fun c14 => ?_)
    · replace hw := hw.1 c14
      exact wk_X9_zeros_L31 hG _ _ hk hn hZ (lv_sub hl [3] rfl) hw
    · replace hw := hw.2 c14
      refine lv_aload_n hx hb dX9_zeros_7 rfl (lv_at hl 0 rfl) ?_
      obtain ⟨⟨ci0, fs0, hci0, hM0⟩, hw⟩ := hw
      obtain rfl : ci0 = 8 := List.mem_singleton.mp hci0
      refine z_callI hZ (vx_runV (As := []) (rest := []) hC.fix (w_X9_here hlt hw) (cwV 0 hts (lw_V q1970 q1972 qs33 q83 q1973) rfl rfl rfl ⟨rfl, dd_X9_here⟩ ⟨Nat.le_of_ble_eq_true rfl, Nat.le_of_ble_eq_true rfl⟩) (z_preV hC hZ hM0 zc8) rfl rfl hl.1 rfl (lv_room (Nat.zero_le _)) dX9_zeros_8 ⟨hk, hn⟩) (fun r8 M H locs hw1 hZ => ?_) (fun q M H locs ci fs E T9 N9 hw hZ hc1 hM1 hb1 => False.elim hw)
      replace hw := hw1
      clear hw1
      refine W.cs (cells' := cells) (slots' := slots) rfl rfl ?_
      refine lv_iload_n hx hb dX9_zeros_11 rfl (lv_at hl 1 rfl) ?_
      refine lv_icmp_ne (tgt := 31) hx hb dX9_zeros_12 (by decide) (fun c13 => ?_) (fun c13 => ?_)
      · replace hw := hw.1 c13
        exact wk_X9_zeros_L31 hG _ _ hk hn hZ (lv_sub hl [3] rfl) hw
      · replace hw := hw.2 c13
        refine lv_aload_n hx hb dX9_zeros_15 rfl (lv_at hl 0 rfl) ?_
        refine lv_dup hx hb dX9_zeros_16 rfl ?_
        obtain ⟨fs0, g11, hM0, hx0, hw⟩ := hw
        refine z_get hC hZ hM0 zc8 23 (by decide) q1743 (fun _ h9 => h9) hx0 dX9_zeros_17 ?_
        refine lv_iconst (v := 1) hx hb dX9_zeros_20 (by decide) ?_
        refine lv_iadd hx hb dX9_zeros_21 ?_
        obtain ⟨fs0, hM0, hb0, hk0, hw⟩ := hw
        refine z_put hC hZ hM0 hb0 zc8 23 (by decide) q1743 (fun _ h9 => h9) (by decide) rfl rfl hk0 dX9_zeros_22 (fun H locs hZ => ?_)
        generalize zu M _ _ = M at hw hZ
        refine lv_iinc (v := (x3 + 1)) (lv' := [(3, .int (x3 + 1)), (0, .ref o), (1, .int x1), (2, .int x2)]) hx hb dX9_zeros_25 hl (k := 3) rfl rfl (by decide) rfl (fun ls hl1 => ?_)
        replace hl := hl1
        clear hl1
        refine lv_goto (tgt := 2) hx hb dX9_zeros_28 (by decide) ?_
        exact ih _ _ _ _ hk hn hZ (lv_sub hl [1, 2, 3, 0] rfl) hw
def wp_X9_zeros (D : zD) (post : Int32 → zM → Prop) (o : Nat) (a0 : Int32) (a1 : Int32) (M : zM) : Prop :=
    (∃ f, wp_X9_zeros_L2 D post o f a0 a1 (0 : Int32) M)
set_option maxHeartbeats 4000000 in
set_option maxRecDepth 100000 in
theorem w_X9_zeros {l : Launch} {D : zD} {post : Int32 → zM → Prop} (hlt : l.stackTraces = false) {o : Nat} {a0 : Int32} {a1 : Int32} {M : zM} (hw : wp_X9_zeros D post o a0 a1 M) : zMet l D yX9_zeros (ws_ yX9_zeros cX9_zeros 4 (some .int)) rm_X9_zeros 0 0 [.ref o, .int a0, .int a1] M zI post (fun _ _ => False) := by
  unfold wp_X9_zeros at hw
  have hlv : lv_args 0 [.ref o, .int a0, .int a1] = [(0, .ref o), (1, .int a0), (2, .int a1)] := (zargs1 rfl (zargs1 rfl (zargs1 rfl rfl)))
  refine z_ofW hlt (by decide) (Nat.le_trans (zsl1 rfl (zsl1 rfl (zsl1 rfl (Nat.le_refl 0 : (lg_sl []).length ≤ 0)))) (Nat.le_of_ble_eq_true rfl)) hlv ?_
  intro p e s m args below meth c ls hG hZ hl
  have hC := hG.1
  have hx := hC.x
  have hb := hC.b
  have hown := hC.o
  have hts := hC.ts
  have hlt := hG.2.2.2.2.2
  obtain ⟨cells, hce⟩ : ∃ z : Nat, z = 0 := ⟨0, rfl⟩
  obtain ⟨slots, hsl⟩ : ∃ z : Nat, z = 0 := ⟨0, rfl⟩
  refine W.cs (cells' := cells) (slots' := slots) hce.symm hsl.symm ?_
  have hk : cells ≤ 0 := Nat.le_of_eq hce
  have hn : slots ≤ 0 := Nat.le_of_eq hsl
  clear hce hsl
  refine lv_iconst (v := 0) hx hb dX9_zeros_0 (by decide) ?_
  refine lv_istore_n (i := 3) (lv' := [(3, .int (0 : Int32)), (0, .ref o), (1, .int a0), (2, .int a1)]) hx hb dX9_zeros_1 rfl hl (by decide) rfl (fun ls hl1 => ?_)
  replace hl := hl1
  clear hl1
  obtain ⟨f1, hw⟩ := hw
  exact wk_X9_zeros_L2 hG f1 _ _ _ _ hk hn hZ (lv_sub hl [1, 2, 3, 0] rfl) hw
abbrev rm_X9_readsPattern : Room := { frames := 3, cells := 0, slots := 0, locals := 107 }
def wp_X9_readsPattern_L96 (D : zD) (post : Int32 → zM → Prop) (o : Nat) (y0 : Int32) (M : zM) : Prop :=
    (narrow .boolean (.int y0) = .int y0 ∧ post y0 M)
set_option maxHeartbeats 4000000 in
set_option maxRecDepth 100000 in
theorem wk_X9_readsPattern_L96 {p : Program} {l : Launch} {e : Env} {s : State} {m : MethodId} {args : Array Value} {below : List Frame} {meth : Method} {c : Code} {D : zD} {post : Int32 → zM → Prop} {o : Nat} (hG : zGx p l s m args meth c cX9_readsPattern 1 "PluralBranchesModel" D (some .boolean) "readsPattern" []) : ∀ {H : Heap} {locs : List Loc} {cells slots : Nat} {ls : Array Slot} (y0 : Int32) (M : zM), cells ≤ 0 → slots ≤ 0 → zS D M H locs → lv_has ls 1 [] → wp_X9_readsPattern_L96 D post o y0 M → W p l e rm_X9_readsPattern s m args below meth c H locs cells slots (vx_MQ below (zQ D zI post) (zX D (fun _ _ => False)) args s 0 0 (zA D)) (F0 m 96 ls [.int y0]) := by
  have hC := hG.1
  have hx := hC.x
  have hb := hC.b
  have hown := hC.o
  have hts := hC.ts
  have hlt := hG.2.2.2.2.2
  intro H locs cells slots ls y0 M hk hn hZ hl hw
  exact z_zret hG hZ hk hn hw.1 hw.2 dX9_readsPattern_96
def wp_X9_readsPattern_L15 (D : zD) (post : Int32 → zM → Prop) (o : Nat) (y0 : Option Nat) (y1 : Int32) (M : zM) : Prop :=
    ((zd y0 fun b1 => zp D M b1 8 37 (.int y1) fun M => ((zis M o [8] ∧ wp_X9_zeros D (fun r2 M => (zp D M o 8 38 (.int r2) fun M => (zp D M o 8 39 (.int (0 : Int32)) fun M => (zp D M o 8 40 (.int (0 : Int32)) fun M => (zgI M o 8 38 fun g5 => ((¬ g5 = 0 → ((zis M o [8] ∧ wp_X9_takes D (fun r6 M => ((r6 = 0 → (narrow .boolean (.int (1 : Int32)) = .int (1 : Int32) ∧ post (1 : Int32) M)) ∧ (¬ r6 = 0 → ((zis M o [8] ∧ wp_X9_zeros D (fun r9 M => (zp D M o 8 39 (.int r9) fun M => (zgI M o 8 39 fun g12 => ((zis M o [8] ∧ wp_X9_zeros D (fun r13 M => (zp D M o 8 40 (.int (g12 + r13)) fun M => (zgI M o 8 40 fun g16 => ((g16 ≤ 0 → wp_X9_readsPattern_L96 D post o (0 : Int32) M) ∧ (¬ g16 ≤ 0 → wp_X9_readsPattern_L96 D post o (1 : Int32) M))))) o (35 : Int32) (3 : Int32) M))))) o (48 : Int32) (3 : Int32) M))))) o (46 : Int32) M))) ∧ (g5 = 0 → (narrow .boolean (.int (0 : Int32)) = .int (0 : Int32) ∧ post (0 : Int32) M)))))))) o (48 : Int32) (4 : Int32) M))))
set_option maxHeartbeats 4000000 in
set_option maxRecDepth 100000 in
theorem wk_X9_readsPattern_L15 {p : Program} {l : Launch} {e : Env} {s : State} {m : MethodId} {args : Array Value} {below : List Frame} {meth : Method} {c : Code} {D : zD} {post : Int32 → zM → Prop} {o : Nat} (hG : zGx p l s m args meth c cX9_readsPattern 1 "PluralBranchesModel" D (some .boolean) "readsPattern" []) : ∀ {H : Heap} {locs : List Loc} {cells slots : Nat} {ls : Array Slot} (y0 : Option Nat) (y1 : Int32) (M : zM), cells ≤ 0 → slots ≤ 0 → zS D M H locs → lv_has ls 1 [(0, .ref o)] → wp_X9_readsPattern_L15 D post o y0 y1 M → W p l e rm_X9_readsPattern s m args below meth c H locs cells slots (vx_MQ below (zQ D zI post) (zX D (fun _ _ => False)) args s 0 0 (zA D)) (F0 m 15 ls [.int y1, va_rf y0]) := by
  have hC := hG.1
  have hx := hC.x
  have hb := hC.b
  have hown := hC.o
  have hts := hC.ts
  have hlt := hG.2.2.2.2.2
  intro H locs cells slots ls y0 y1 M hk hn hZ hl hw
  obtain ⟨b26, hr0, hw⟩ := hw
  subst hr0
  obtain ⟨fs0, hM0, hb0, hk0, hw⟩ := hw
  refine z_put hC hZ hM0 hb0 zc8 37 (by decide) q1757 (fun _ h9 => h9) (by decide) rfl rfl hk0 dX9_readsPattern_15 (fun H locs hZ => ?_)
  generalize zu M _ _ = M at hw hZ
  refine lv_aload_n hx hb dX9_readsPattern_18 rfl (lv_at hl 0 rfl) ?_
  refine lv_aload_n hx hb dX9_readsPattern_19 rfl (lv_at hl 0 rfl) ?_
  refine lv_bipush (v := 48) hx hb dX9_readsPattern_20 (by decide) ?_
  refine lv_iconst (v := 4) hx hb dX9_readsPattern_22 (by decide) ?_
  obtain ⟨⟨ci0, fs0, hci0, hM0⟩, hw⟩ := hw
  obtain rfl : ci0 = 8 := List.mem_singleton.mp hci0
  refine z_callI hZ (vx_runV (As := [.int (48 : Int32), .int (4 : Int32)]) (rest := [.ref o]) hC.fix (w_X9_zeros hlt hw) (cwV 2 hts (lw_V q2001 q2003 qs39 q83 q2004) rfl rfl rfl ⟨rfl, dd_X9_zeros⟩ ⟨Nat.le_of_ble_eq_true rfl, Nat.le_of_ble_eq_true rfl⟩) (z_preV hC hZ hM0 zc8) rfl rfl hl.1 rfl (lv_room (Nat.le_trans (zrm1 rfl zrm0) (Nat.le_of_ble_eq_true rfl))) dX9_readsPattern_23 ⟨hk, hn⟩) (fun r27 M H locs hw1 hZ => ?_) (fun q M H locs ci fs E T9 N9 hw hZ hc1 hM1 hb1 => False.elim hw)
  replace hw := hw1
  clear hw1
  refine W.cs (cells' := cells) (slots' := slots) rfl rfl ?_
  obtain ⟨fs0, hM0, hb0, hk0, hw⟩ := hw
  refine z_put hC hZ hM0 hb0 zc8 38 (by decide) q1758 (fun _ h9 => h9) (by decide) rfl rfl hk0 dX9_readsPattern_26 (fun H locs hZ => ?_)
  generalize zu M _ _ = M at hw hZ
  refine lv_aload_n hx hb dX9_readsPattern_29 rfl (lv_at hl 0 rfl) ?_
  refine lv_iconst (v := 0) hx hb dX9_readsPattern_30 (by decide) ?_
  obtain ⟨fs0, hM0, hb0, hk0, hw⟩ := hw
  refine z_put hC hZ hM0 hb0 zc8 39 (by decide) q1759 (fun _ h9 => h9) (by decide) rfl rfl hk0 dX9_readsPattern_31 (fun H locs hZ => ?_)
  generalize zu M _ _ = M at hw hZ
  refine lv_aload_n hx hb dX9_readsPattern_34 rfl (lv_at hl 0 rfl) ?_
  refine lv_iconst (v := 0) hx hb dX9_readsPattern_35 (by decide) ?_
  obtain ⟨fs0, hM0, hb0, hk0, hw⟩ := hw
  refine z_put hC hZ hM0 hb0 zc8 40 (by decide) q1760 (fun _ h9 => h9) (by decide) rfl rfl hk0 dX9_readsPattern_36 (fun H locs hZ => ?_)
  generalize zu M _ _ = M at hw hZ
  refine lv_aload_n hx hb dX9_readsPattern_39 rfl (lv_at hl 0 rfl) ?_
  obtain ⟨fs0, g30, hM0, hx0, hw⟩ := hw
  refine z_get hC hZ hM0 zc8 38 (by decide) q1758 (fun _ h9 => h9) hx0 dX9_readsPattern_40 ?_
  refine lv_if_ne (tgt := 48) hx hb dX9_readsPattern_43 (by decide) (fun c46 => ?_) (fun c46 => ?_)
  · replace hw := hw.1 c46
    refine lv_aload_n hx hb dX9_readsPattern_48 rfl (lv_at hl 0 rfl) ?_
    refine lv_bipush (v := 46) hx hb dX9_readsPattern_49 (by decide) ?_
    obtain ⟨⟨ci0, fs0, hci0, hM0⟩, hw⟩ := hw
    obtain rfl : ci0 = 8 := List.mem_singleton.mp hci0
    refine z_callI hZ (vx_runV (As := [.int (46 : Int32)]) (rest := []) hC.fix (w_X9_takes hlt hw) (cwV 1 hts (lw_V q1993 q1995 qs37 q83 q1996) rfl rfl rfl ⟨rfl, dd_X9_takes⟩ ⟨Nat.le_of_ble_eq_true rfl, Nat.le_of_ble_eq_true rfl⟩) (z_preV hC hZ hM0 zc8) rfl rfl hl.1 rfl (lv_room (Nat.zero_le _)) dX9_readsPattern_51 ⟨hk, hn⟩) (fun r31 M H locs hw1 hZ => ?_) (fun q M H locs ci fs E T9 N9 hw hZ hc1 hM1 hb1 => False.elim hw)
    replace hw := hw1
    clear hw1
    refine W.cs (cells' := cells) (slots' := slots) rfl rfl ?_
    refine lv_if_eq (tgt := 97) hx hb dX9_readsPattern_54 (by decide) (fun c45 => ?_) (fun c45 => ?_)
    · replace hw := hw.1 c45
      refine lv_iconst (v := 1) hx hb dX9_readsPattern_97 (by decide) ?_
      exact z_zret hG hZ hk hn hw.1 hw.2 dX9_readsPattern_98
    · replace hw := hw.2 c45
      refine lv_aload_n hx hb dX9_readsPattern_57 rfl (lv_at hl 0 rfl) ?_
      refine lv_aload_n hx hb dX9_readsPattern_58 rfl (lv_at hl 0 rfl) ?_
      refine lv_bipush (v := 48) hx hb dX9_readsPattern_59 (by decide) ?_
      refine lv_iconst (v := 3) hx hb dX9_readsPattern_61 (by decide) ?_
      obtain ⟨⟨ci0, fs0, hci0, hM0⟩, hw⟩ := hw
      obtain rfl : ci0 = 8 := List.mem_singleton.mp hci0
      refine z_callI hZ (vx_runV (As := [.int (48 : Int32), .int (3 : Int32)]) (rest := [.ref o]) hC.fix (w_X9_zeros hlt hw) (cwV 2 hts (lw_V q2001 q2003 qs39 q83 q2004) rfl rfl rfl ⟨rfl, dd_X9_zeros⟩ ⟨Nat.le_of_ble_eq_true rfl, Nat.le_of_ble_eq_true rfl⟩) (z_preV hC hZ hM0 zc8) rfl rfl hl.1 rfl (lv_room (Nat.le_trans (zrm1 rfl zrm0) (Nat.le_of_ble_eq_true rfl))) dX9_readsPattern_62 ⟨hk, hn⟩) (fun r34 M H locs hw1 hZ => ?_) (fun q M H locs ci fs E T9 N9 hw hZ hc1 hM1 hb1 => False.elim hw)
      replace hw := hw1
      clear hw1
      refine W.cs (cells' := cells) (slots' := slots) rfl rfl ?_
      obtain ⟨fs0, hM0, hb0, hk0, hw⟩ := hw
      refine z_put hC hZ hM0 hb0 zc8 39 (by decide) q1759 (fun _ h9 => h9) (by decide) rfl rfl hk0 dX9_readsPattern_65 (fun H locs hZ => ?_)
      generalize zu M _ _ = M at hw hZ
      refine lv_aload_n hx hb dX9_readsPattern_68 rfl (lv_at hl 0 rfl) ?_
      refine lv_aload_n hx hb dX9_readsPattern_69 rfl (lv_at hl 0 rfl) ?_
      obtain ⟨fs0, g37, hM0, hx0, hw⟩ := hw
      refine z_get hC hZ hM0 zc8 39 (by decide) q1759 (fun _ h9 => h9) hx0 dX9_readsPattern_70 ?_
      refine lv_aload_n hx hb dX9_readsPattern_73 rfl (lv_at hl 0 rfl) ?_
      refine lv_bipush (v := 35) hx hb dX9_readsPattern_74 (by decide) ?_
      refine lv_iconst (v := 3) hx hb dX9_readsPattern_76 (by decide) ?_
      obtain ⟨⟨ci0, fs0, hci0, hM0⟩, hw⟩ := hw
      obtain rfl : ci0 = 8 := List.mem_singleton.mp hci0
      refine z_callI hZ (vx_runV (As := [.int (35 : Int32), .int (3 : Int32)]) (rest := [.int g37, .ref o]) hC.fix (w_X9_zeros hlt hw) (cwV 2 hts (lw_V q2001 q2003 qs39 q83 q2004) rfl rfl rfl ⟨rfl, dd_X9_zeros⟩ ⟨Nat.le_of_ble_eq_true rfl, Nat.le_of_ble_eq_true rfl⟩) (z_preV hC hZ hM0 zc8) rfl rfl hl.1 rfl (lv_room (Nat.le_trans (zrm1 rfl (zrm1 rfl zrm0)) (Nat.le_of_ble_eq_true rfl))) dX9_readsPattern_77 ⟨hk, hn⟩) (fun r38 M H locs hw1 hZ => ?_) (fun q M H locs ci fs E T9 N9 hw hZ hc1 hM1 hb1 => False.elim hw)
      replace hw := hw1
      clear hw1
      refine W.cs (cells' := cells) (slots' := slots) rfl rfl ?_
      refine lv_iadd hx hb dX9_readsPattern_80 ?_
      obtain ⟨fs0, hM0, hb0, hk0, hw⟩ := hw
      refine z_put hC hZ hM0 hb0 zc8 40 (by decide) q1760 (fun _ h9 => h9) (by decide) rfl rfl hk0 dX9_readsPattern_81 (fun H locs hZ => ?_)
      generalize zu M _ _ = M at hw hZ
      refine lv_aload_n hx hb dX9_readsPattern_84 rfl (lv_at hl 0 rfl) ?_
      obtain ⟨fs0, g41, hM0, hx0, hw⟩ := hw
      refine z_get hC hZ hM0 zc8 40 (by decide) q1760 (fun _ h9 => h9) hx0 dX9_readsPattern_85 ?_
      refine lv_if_le (tgt := 95) hx hb dX9_readsPattern_88 (by decide) (fun c42 => ?_) (fun c42 => ?_)
      · replace hw := hw.1 c42
        refine lv_iconst (v := 0) hx hb dX9_readsPattern_95 (by decide) ?_
        exact wk_X9_readsPattern_L96 hG _ _ hk hn hZ (lv_sub hl [] rfl) hw
      · replace hw := hw.2 c42
        refine lv_iconst (v := 1) hx hb dX9_readsPattern_91 (by decide) ?_
        refine lv_goto (tgt := 96) hx hb dX9_readsPattern_92 (by decide) ?_
        exact wk_X9_readsPattern_L96 hG _ _ hk hn hZ (lv_sub hl [] rfl) hw
  · replace hw := hw.2 c46
    refine lv_iconst (v := 0) hx hb dX9_readsPattern_46 (by decide) ?_
    exact z_zret hG hZ hk hn hw.1 hw.2 dX9_readsPattern_47
def wp_X9_readsPattern (D : zD) (post : Int32 → zM → Prop) (o : Nat) (M : zM) : Prop :=
    ((zis M o [8] ∧ wp_X9_takes D (fun r51 M => ((r51 = 0 → wp_X9_readsPattern_L15 D post o (some o) (0 : Int32) M) ∧ (¬ r51 = 0 → wp_X9_readsPattern_L15 D post o (some o) (1 : Int32) M))) o (44 : Int32) M))
set_option maxHeartbeats 4000000 in
set_option maxRecDepth 100000 in
theorem w_X9_readsPattern {l : Launch} {D : zD} {post : Int32 → zM → Prop} (hlt : l.stackTraces = false) {o : Nat} {M : zM} (hw : wp_X9_readsPattern D post o M) : zMet l D yX9_readsPattern (ws_ yX9_readsPattern cX9_readsPattern 1 (some .boolean)) rm_X9_readsPattern 0 0 [.ref o] M zI post (fun _ _ => False) := by
  unfold wp_X9_readsPattern at hw
  have hlv : lv_args 0 [.ref o] = [(0, .ref o)] := (zargs1 rfl rfl)
  refine z_ofW hlt (by decide) (Nat.le_trans (zsl1 rfl (Nat.le_refl 0 : (lg_sl []).length ≤ 0)) (Nat.le_of_ble_eq_true rfl)) hlv ?_
  intro p e s m args below meth c ls hG hZ hl
  have hC := hG.1
  have hx := hC.x
  have hb := hC.b
  have hown := hC.o
  have hts := hC.ts
  have hlt := hG.2.2.2.2.2
  obtain ⟨cells, hce⟩ : ∃ z : Nat, z = 0 := ⟨0, rfl⟩
  obtain ⟨slots, hsl⟩ : ∃ z : Nat, z = 0 := ⟨0, rfl⟩
  refine W.cs (cells' := cells) (slots' := slots) hce.symm hsl.symm ?_
  have hk : cells ≤ 0 := Nat.le_of_eq hce
  have hn : slots ≤ 0 := Nat.le_of_eq hsl
  clear hce hsl
  refine lv_aload_n hx hb dX9_readsPattern_0 rfl (lv_at hl 0 rfl) ?_
  refine lv_aload_n hx hb dX9_readsPattern_1 rfl (lv_at hl 0 rfl) ?_
  refine lv_bipush (v := 44) hx hb dX9_readsPattern_2 (by decide) ?_
  obtain ⟨⟨ci0, fs0, hci0, hM0⟩, hw⟩ := hw
  obtain rfl : ci0 = 8 := List.mem_singleton.mp hci0
  refine z_callI hZ (vx_runV (As := [.int (44 : Int32)]) (rest := [.ref o]) hC.fix (w_X9_takes hlt hw) (cwV 1 hts (lw_V q1993 q1995 qs37 q83 q1996) rfl rfl rfl ⟨rfl, dd_X9_takes⟩ ⟨Nat.le_of_ble_eq_true rfl, Nat.le_of_ble_eq_true rfl⟩) (z_preV hC hZ hM0 zc8) rfl rfl hl.1 rfl (lv_room (Nat.le_trans (zrm1 rfl zrm0) (Nat.le_of_ble_eq_true rfl))) dX9_readsPattern_4 ⟨hk, hn⟩) (fun r55 M H locs hw1 hZ => ?_) (fun q M H locs ci fs E T9 N9 hw hZ hc1 hM1 hb1 => False.elim hw)
  replace hw := hw1
  clear hw1
  refine W.cs (cells' := cells) (slots' := slots) rfl rfl ?_
  refine lv_if_eq (tgt := 14) hx hb dX9_readsPattern_7 (by decide) (fun c58 => ?_) (fun c58 => ?_)
  · replace hw := hw.1 c58
    refine lv_iconst (v := 0) hx hb dX9_readsPattern_14 (by decide) ?_
    exact wk_X9_readsPattern_L15 hG _ _ _ hk hn hZ (lv_sub hl [0] rfl) hw
  · replace hw := hw.2 c58
    refine lv_iconst (v := 1) hx hb dX9_readsPattern_10 (by decide) ?_
    refine lv_goto (tgt := 15) hx hb dX9_readsPattern_11 (by decide) ?_
    exact wk_X9_readsPattern_L15 hG _ _ _ hk hn hZ (lv_sub hl [0] rfl) hw
abbrev rm_X9_readsKey : Room := { frames := 3, cells := 0, slots := 0, locals := 105 }
def wp_X9_readsKey_L56 (D : zD) (post : Int32 → zM → Prop) (o : Nat) (M : zM) : Prop :=
    post (-1 : Int32) M
set_option maxHeartbeats 4000000 in
set_option maxRecDepth 100000 in
theorem wk_X9_readsKey_L56 {p : Program} {l : Launch} {e : Env} {s : State} {m : MethodId} {args : Array Value} {below : List Frame} {meth : Method} {c : Code} {D : zD} {post : Int32 → zM → Prop} {o : Nat} (hG : zGx p l s m args meth c cX9_readsKey 5 "PluralBranchesModel" D (some .int) "readsKey" []) : ∀ {H : Heap} {locs : List Loc} {cells slots : Nat} {ls : Array Slot} (M : zM), cells ≤ 0 → slots ≤ 0 → zS D M H locs → lv_has ls 5 [] → wp_X9_readsKey_L56 D post o M → W p l e rm_X9_readsKey s m args below meth c H locs cells slots (vx_MQ below (zQ D zI post) (zX D (fun _ _ => False)) args s 0 0 (zA D)) (F0 m 56 ls []) := by
  have hC := hG.1
  have hx := hC.x
  have hb := hC.b
  have hown := hC.o
  have hts := hC.ts
  have hlt := hG.2.2.2.2.2
  intro H locs cells slots ls M hk hn hZ hl hw
  refine lv_iconst (v := (-1)) hx hb dX9_readsKey_56 (by decide) ?_
  exact z_iret hG hZ hk hn hw dX9_readsKey_57
def wp_X9_readsKey_L115 (D : zD) (post : Int32 → zM → Prop) (o : Nat) (x3 : Int32) (M : zM) : Prop :=
    post ((10 : Int32) + x3) M
set_option maxHeartbeats 4000000 in
set_option maxRecDepth 100000 in
theorem wk_X9_readsKey_L115 {p : Program} {l : Launch} {e : Env} {s : State} {m : MethodId} {args : Array Value} {below : List Frame} {meth : Method} {c : Code} {D : zD} {post : Int32 → zM → Prop} {o : Nat} (hG : zGx p l s m args meth c cX9_readsKey 5 "PluralBranchesModel" D (some .int) "readsKey" []) : ∀ {H : Heap} {locs : List Loc} {cells slots : Nat} {ls : Array Slot} (x3 : Int32) (M : zM), cells ≤ 0 → slots ≤ 0 → zS D M H locs → lv_has ls 5 [(3, .int x3)] → wp_X9_readsKey_L115 D post o x3 M → W p l e rm_X9_readsKey s m args below meth c H locs cells slots (vx_MQ below (zQ D zI post) (zX D (fun _ _ => False)) args s 0 0 (zA D)) (F0 m 115 ls []) := by
  have hC := hG.1
  have hx := hC.x
  have hb := hC.b
  have hown := hC.o
  have hts := hC.ts
  have hlt := hG.2.2.2.2.2
  intro H locs cells slots ls x3 M hk hn hZ hl hw
  refine lv_bipush (v := 10) hx hb dX9_readsKey_115 (by decide) ?_
  refine lv_iload_n hx hb dX9_readsKey_117 rfl (lv_at hl 0 rfl) ?_
  refine lv_iadd hx hb dX9_readsKey_118 ?_
  exact z_iret hG hZ hk hn hw dX9_readsKey_119
def wp_X9_readsKey_L63 (D : zD) (post : Int32 → zM → Prop) (o : Nat) : Nat → Int32 → Int32 → zM → Prop
  | 0 => fun _ _ _ => False
  | f + 1 => fun x3 x4 M =>
    (((3 : Int32) ≤ x4 → wp_X9_readsKey_L115 D post o x3 M) ∧ (¬ (3 : Int32) ≤ x4 → ((zis M o [8] ∧ wp_X9_here D (fun r1 M => (wp_X9_in D (fun r4 M => ((r4 = 0 → wp_X9_readsKey_L115 D post o x3 M) ∧ (¬ r4 = 0 → ((zis M o [8] ∧ wp_X9_here D (fun r7 M => (zgI M o 8 23 fun g10 => (zp D M o 8 23 (.int (g10 + (1 : Int32))) fun M => wp_X9_readsKey_L63 D post o f ((((10 : Int32) * x3) + r7) - (48 : Int32)) (x4 + 1) M))) o M))))) (r1.toInt64) (48 : Int64) (57 : Int64) M)) o M))))
set_option maxHeartbeats 4000000 in
set_option maxRecDepth 100000 in
theorem wk_X9_readsKey_L63 {p : Program} {l : Launch} {e : Env} {s : State} {m : MethodId} {args : Array Value} {below : List Frame} {meth : Method} {c : Code} {D : zD} {post : Int32 → zM → Prop} {o : Nat} (hG : zGx p l s m args meth c cX9_readsKey 5 "PluralBranchesModel" D (some .int) "readsKey" []) : ∀ (f : Nat), ∀ {H : Heap} {locs : List Loc} {cells slots : Nat} {ls : Array Slot} (x3 : Int32) (x4 : Int32) (M : zM), cells ≤ 0 → slots ≤ 0 → zS D M H locs → lv_has ls 5 [(0, .ref o), (3, .int x3), (4, .int x4)] → wp_X9_readsKey_L63 D post o f x3 x4 M → W p l e rm_X9_readsKey s m args below meth c H locs cells slots (vx_MQ below (zQ D zI post) (zX D (fun _ _ => False)) args s 0 0 (zA D)) (F0 m 63 ls []) := by
  have hC := hG.1
  have hx := hC.x
  have hb := hC.b
  have hown := hC.o
  have hts := hC.ts
  have hlt := hG.2.2.2.2.2
  intro f
  induction f with
  | zero =>
    intro H locs cells slots ls x3 x4 M hk hn hZ hl hw
    exact absurd hw (fun h => h)
  | succ f ih =>
    intro H locs cells slots ls x3 x4 M hk hn hZ hl hw
    refine lv_iload hx hb dX9_readsKey_63 (lv_at hl 2 rfl) ?_
    refine lv_iconst (v := 3) hx hb dX9_readsKey_65 (by decide) ?_
    refine lv_icmp_ge (tgt := 115) hx hb dX9_readsKey_66 (by decide) (fun c26 => ?_) (fun c26 => ?_)
    · replace hw := hw.1 c26
      exact wk_X9_readsKey_L115 hG _ _ hk hn hZ (lv_sub hl [1] rfl) hw
    · replace hw := hw.2 c26
      refine lv_aload_n hx hb dX9_readsKey_69 rfl (lv_at hl 0 rfl) ?_
      obtain ⟨⟨ci0, fs0, hci0, hM0⟩, hw⟩ := hw
      obtain rfl : ci0 = 8 := List.mem_singleton.mp hci0
      refine z_callI hZ (vx_runV (As := []) (rest := []) hC.fix (w_X9_here hlt hw) (cwV 0 hts (lw_V q1970 q1972 qs33 q83 q1973) rfl rfl rfl ⟨rfl, dd_X9_here⟩ ⟨Nat.le_of_ble_eq_true rfl, Nat.le_of_ble_eq_true rfl⟩) (z_preV hC hZ hM0 zc8) rfl rfl hl.1 rfl (lv_room (Nat.zero_le _)) dX9_readsKey_70 ⟨hk, hn⟩) (fun r14 M H locs hw1 hZ => ?_) (fun q M H locs ci fs E T9 N9 hw hZ hc1 hM1 hb1 => False.elim hw)
      replace hw := hw1
      clear hw1
      refine W.cs (cells' := cells) (slots' := slots) rfl rfl ?_
      refine lv_i2l hx hb dX9_readsKey_73 rfl ?_
      refine lv_ldc2 hx hb hown (hts _ q2016) dX9_readsKey_74 ?_
      refine lv_ldc2 hx hb hown (hts _ q2017) dX9_readsKey_77 ?_
      refine z_callI hZ (vx_runS (As := [.long (r14.toInt64), .long (48 : Int64), .long (57 : Int64)]) (rest := []) hC.fix (w_X9_in hlt hw) (va_cwS 3 hts (lw_S q1894 q1895 q83 q1896) rfl rfl rfl dd_X9_in ⟨Nat.le_of_ble_eq_true rfl, Nat.le_of_ble_eq_true rfl⟩) (z_preS hC hZ) rfl rfl hl.1 rfl (lv_room (Nat.zero_le _)) dX9_readsKey_80 ⟨hk, hn⟩) (fun r17 M H locs hw1 hZ => ?_) (fun q M H locs ci fs E T9 N9 hw hZ hc1 hM1 hb1 => False.elim hw)
      replace hw := hw1
      clear hw1
      refine W.cs (cells' := cells) (slots' := slots) rfl rfl ?_
      refine lv_if_eq (tgt := 115) hx hb dX9_readsKey_83 (by decide) (fun c25 => ?_) (fun c25 => ?_)
      · replace hw := hw.1 c25
        exact wk_X9_readsKey_L115 hG _ _ hk hn hZ (lv_sub hl [1] rfl) hw
      · replace hw := hw.2 c25
        refine lv_bipush (v := 10) hx hb dX9_readsKey_86 (by decide) ?_
        refine lv_iload_n hx hb dX9_readsKey_88 rfl (lv_at hl 1 rfl) ?_
        refine lv_imul hx hb dX9_readsKey_89 ?_
        refine lv_aload_n hx hb dX9_readsKey_90 rfl (lv_at hl 0 rfl) ?_
        obtain ⟨⟨ci0, fs0, hci0, hM0⟩, hw⟩ := hw
        obtain rfl : ci0 = 8 := List.mem_singleton.mp hci0
        refine z_callI hZ (vx_runV (As := []) (rest := [.int ((10 : Int32) * x3)]) hC.fix (w_X9_here hlt hw) (cwV 0 hts (lw_V q1970 q1972 qs33 q83 q1973) rfl rfl rfl ⟨rfl, dd_X9_here⟩ ⟨Nat.le_of_ble_eq_true rfl, Nat.le_of_ble_eq_true rfl⟩) (z_preV hC hZ hM0 zc8) rfl rfl hl.1 rfl (lv_room (Nat.le_trans (zrm1 rfl zrm0) (Nat.le_of_ble_eq_true rfl))) dX9_readsKey_91 ⟨hk, hn⟩) (fun r20 M H locs hw1 hZ => ?_) (fun q M H locs ci fs E T9 N9 hw hZ hc1 hM1 hb1 => False.elim hw)
        replace hw := hw1
        clear hw1
        refine W.cs (cells' := cells) (slots' := slots) rfl rfl ?_
        refine lv_iadd hx hb dX9_readsKey_94 ?_
        refine lv_bipush (v := 48) hx hb dX9_readsKey_95 (by decide) ?_
        refine lv_isub hx hb dX9_readsKey_97 ?_
        refine lv_istore_n (i := 3) (lv' := [(3, .int ((((10 : Int32) * x3) + r20) - (48 : Int32))), (0, .ref o), (4, .int x4)]) hx hb dX9_readsKey_98 rfl hl (by decide) rfl (fun ls hl1 => ?_)
        replace hl := hl1
        clear hl1
        refine lv_aload_n hx hb dX9_readsKey_99 rfl (lv_at hl 1 rfl) ?_
        refine lv_dup hx hb dX9_readsKey_100 rfl ?_
        obtain ⟨fs0, g23, hM0, hx0, hw⟩ := hw
        refine z_get hC hZ hM0 zc8 23 (by decide) q1743 (fun _ h9 => h9) hx0 dX9_readsKey_101 ?_
        refine lv_iconst (v := 1) hx hb dX9_readsKey_104 (by decide) ?_
        refine lv_iadd hx hb dX9_readsKey_105 ?_
        obtain ⟨fs0, hM0, hb0, hk0, hw⟩ := hw
        refine z_put hC hZ hM0 hb0 zc8 23 (by decide) q1743 (fun _ h9 => h9) (by decide) rfl rfl hk0 dX9_readsKey_106 (fun H locs hZ => ?_)
        generalize zu M _ _ = M at hw hZ
        refine lv_iinc (v := (x4 + 1)) (lv' := [(4, .int (x4 + 1)), (3, .int ((((10 : Int32) * x3) + r20) - (48 : Int32))), (0, .ref o)]) hx hb dX9_readsKey_109 hl (k := 2) rfl rfl (by decide) rfl (fun ls hl1 => ?_)
        replace hl := hl1
        clear hl1
        refine lv_goto (tgt := 63) hx hb dX9_readsKey_112 (by decide) ?_
        exact ih _ _ _ hk hn hZ (lv_sub hl [2, 1, 0] rfl) hw
def wp_X9_readsKey (D : zD) (post : Int32 → zM → Prop) (o : Nat) (a0 : Int32) (M : zM) : Prop :=
    ((zis M o [8] ∧ wp_X9_here D (fun r27 M => (wp_X9_keyOf D (fun r30 M => ((r30 < 0 → ((¬ a0 = (1 : Int32) → wp_X9_readsKey_L56 D post o M) ∧ (a0 = (1 : Int32) → ((zis M o [8] ∧ wp_X9_takes D (fun r33 M => ((r33 = 0 → wp_X9_readsKey_L56 D post o M) ∧ (¬ r33 = 0 → ((zis M o [8] ∧ wp_X9_here D (fun r36 M => (wp_X9_in D (fun r39 M => ((¬ r39 = 0 → (∃ f, wp_X9_readsKey_L63 D post o f (0 : Int32) (0 : Int32) M)) ∧ (r39 = 0 → wp_X9_readsKey_L56 D post o M))) (r36.toInt64) (48 : Int64) (57 : Int64) M)) o M))))) o (61 : Int32) M))))) ∧ (¬ r30 < 0 → (zgI M o 8 23 fun g45 => (zp D M o 8 23 (.int (g45 + (1 : Int32))) fun M => post r30 M))))) a0 r27 M)) o M))
set_option maxHeartbeats 4000000 in
set_option maxRecDepth 100000 in
theorem w_X9_readsKey {l : Launch} {D : zD} {post : Int32 → zM → Prop} (hlt : l.stackTraces = false) {o : Nat} {a0 : Int32} {M : zM} (hw : wp_X9_readsKey D post o a0 M) : zMet l D yX9_readsKey (ws_ yX9_readsKey cX9_readsKey 5 (some .int)) rm_X9_readsKey 0 0 [.ref o, .int a0] M zI post (fun _ _ => False) := by
  unfold wp_X9_readsKey at hw
  have hlv : lv_args 0 [.ref o, .int a0] = [(0, .ref o), (1, .int a0)] := (zargs1 rfl (zargs1 rfl rfl))
  refine z_ofW hlt (by decide) (Nat.le_trans (zsl1 rfl (zsl1 rfl (Nat.le_refl 0 : (lg_sl []).length ≤ 0))) (Nat.le_of_ble_eq_true rfl)) hlv ?_
  intro p e s m args below meth c ls hG hZ hl
  have hC := hG.1
  have hx := hC.x
  have hb := hC.b
  have hown := hC.o
  have hts := hC.ts
  have hlt := hG.2.2.2.2.2
  obtain ⟨cells, hce⟩ : ∃ z : Nat, z = 0 := ⟨0, rfl⟩
  obtain ⟨slots, hsl⟩ : ∃ z : Nat, z = 0 := ⟨0, rfl⟩
  refine W.cs (cells' := cells) (slots' := slots) hce.symm hsl.symm ?_
  have hk : cells ≤ 0 := Nat.le_of_eq hce
  have hn : slots ≤ 0 := Nat.le_of_eq hsl
  clear hce hsl
  refine lv_iload_n hx hb dX9_readsKey_0 rfl (lv_at hl 1 rfl) ?_
  refine lv_aload_n hx hb dX9_readsKey_1 rfl (lv_at hl 0 rfl) ?_
  obtain ⟨⟨ci0, fs0, hci0, hM0⟩, hw⟩ := hw
  obtain rfl : ci0 = 8 := List.mem_singleton.mp hci0
  refine z_callI hZ (vx_runV (As := []) (rest := [.int a0]) hC.fix (w_X9_here hlt hw) (cwV 0 hts (lw_V q1970 q1972 qs33 q83 q1973) rfl rfl rfl ⟨rfl, dd_X9_here⟩ ⟨Nat.le_of_ble_eq_true rfl, Nat.le_of_ble_eq_true rfl⟩) (z_preV hC hZ hM0 zc8) rfl rfl hl.1 rfl (lv_room (Nat.le_trans (zrm1 rfl zrm0) (Nat.le_of_ble_eq_true rfl))) dX9_readsKey_2 ⟨hk, hn⟩) (fun r48 M H locs hw1 hZ => ?_) (fun q M H locs ci fs E T9 N9 hw hZ hc1 hM1 hb1 => False.elim hw)
  replace hw := hw1
  clear hw1
  refine W.cs (cells' := cells) (slots' := slots) rfl rfl ?_
  refine z_callI hZ (vx_runS (As := [.int a0, .int r48]) (rest := []) hC.fix (w_X9_keyOf hlt hw) (va_cwS 2 hts (lw_S q2013 q2014 q83 q2015) rfl rfl rfl dd_X9_keyOf ⟨Nat.le_of_ble_eq_true rfl, Nat.le_of_ble_eq_true rfl⟩) (z_preS hC hZ) rfl rfl hl.1 rfl (lv_room (Nat.zero_le _)) dX9_readsKey_5 ⟨hk, hn⟩) (fun r51 M H locs hw1 hZ => ?_) (fun q M H locs ci fs E T9 N9 hw hZ hc1 hM1 hb1 => False.elim hw)
  replace hw := hw1
  clear hw1
  refine W.cs (cells' := cells) (slots' := slots) rfl rfl ?_
  refine lv_istore_n (i := 2) (lv' := [(2, .int r51), (0, .ref o), (1, .int a0)]) hx hb dX9_readsKey_8 rfl hl (by decide) rfl (fun ls hl1 => ?_)
  replace hl := hl1
  clear hl1
  refine lv_iload_n hx hb dX9_readsKey_9 rfl (lv_at hl 0 rfl) ?_
  refine lv_if_lt (tgt := 25) hx hb dX9_readsKey_10 (by decide) (fun c68 => ?_) (fun c68 => ?_)
  · replace hw := hw.1 c68
    refine lv_iload_n hx hb dX9_readsKey_25 rfl (lv_at hl 2 rfl) ?_
    refine lv_iconst (v := 1) hx hb dX9_readsKey_26 (by decide) ?_
    refine lv_icmp_ne (tgt := 56) hx hb dX9_readsKey_27 (by decide) (fun c65 => ?_) (fun c65 => ?_)
    · replace hw := hw.1 c65
      exact wk_X9_readsKey_L56 hG _ hk hn hZ (lv_sub hl [] rfl) hw
    · replace hw := hw.2 c65
      refine lv_aload_n hx hb dX9_readsKey_30 rfl (lv_at hl 1 rfl) ?_
      refine lv_bipush (v := 61) hx hb dX9_readsKey_31 (by decide) ?_
      obtain ⟨⟨ci0, fs0, hci0, hM0⟩, hw⟩ := hw
      obtain rfl : ci0 = 8 := List.mem_singleton.mp hci0
      refine z_callI hZ (vx_runV (As := [.int (61 : Int32)]) (rest := []) hC.fix (w_X9_takes hlt hw) (cwV 1 hts (lw_V q1993 q1995 qs37 q83 q1996) rfl rfl rfl ⟨rfl, dd_X9_takes⟩ ⟨Nat.le_of_ble_eq_true rfl, Nat.le_of_ble_eq_true rfl⟩) (z_preV hC hZ hM0 zc8) rfl rfl hl.1 rfl (lv_room (Nat.zero_le _)) dX9_readsKey_33 ⟨hk, hn⟩) (fun r54 M H locs hw1 hZ => ?_) (fun q M H locs ci fs E T9 N9 hw hZ hc1 hM1 hb1 => False.elim hw)
      replace hw := hw1
      clear hw1
      refine W.cs (cells' := cells) (slots' := slots) rfl rfl ?_
      refine lv_if_eq (tgt := 56) hx hb dX9_readsKey_36 (by decide) (fun c64 => ?_) (fun c64 => ?_)
      · replace hw := hw.1 c64
        exact wk_X9_readsKey_L56 hG _ hk hn hZ (lv_sub hl [] rfl) hw
      · replace hw := hw.2 c64
        refine lv_aload_n hx hb dX9_readsKey_39 rfl (lv_at hl 1 rfl) ?_
        obtain ⟨⟨ci0, fs0, hci0, hM0⟩, hw⟩ := hw
        obtain rfl : ci0 = 8 := List.mem_singleton.mp hci0
        refine z_callI hZ (vx_runV (As := []) (rest := []) hC.fix (w_X9_here hlt hw) (cwV 0 hts (lw_V q1970 q1972 qs33 q83 q1973) rfl rfl rfl ⟨rfl, dd_X9_here⟩ ⟨Nat.le_of_ble_eq_true rfl, Nat.le_of_ble_eq_true rfl⟩) (z_preV hC hZ hM0 zc8) rfl rfl hl.1 rfl (lv_room (Nat.zero_le _)) dX9_readsKey_40 ⟨hk, hn⟩) (fun r57 M H locs hw1 hZ => ?_) (fun q M H locs ci fs E T9 N9 hw hZ hc1 hM1 hb1 => False.elim hw)
        replace hw := hw1
        clear hw1
        refine W.cs (cells' := cells) (slots' := slots) rfl rfl ?_
        refine lv_i2l hx hb dX9_readsKey_43 rfl ?_
        refine lv_ldc2 hx hb hown (hts _ q2016) dX9_readsKey_44 ?_
        refine lv_ldc2 hx hb hown (hts _ q2017) dX9_readsKey_47 ?_
        refine z_callI hZ (vx_runS (As := [.long (r57.toInt64), .long (48 : Int64), .long (57 : Int64)]) (rest := []) hC.fix (w_X9_in hlt hw) (va_cwS 3 hts (lw_S q1894 q1895 q83 q1896) rfl rfl rfl dd_X9_in ⟨Nat.le_of_ble_eq_true rfl, Nat.le_of_ble_eq_true rfl⟩) (z_preS hC hZ) rfl rfl hl.1 rfl (lv_room (Nat.zero_le _)) dX9_readsKey_50 ⟨hk, hn⟩) (fun r60 M H locs hw1 hZ => ?_) (fun q M H locs ci fs E T9 N9 hw hZ hc1 hM1 hb1 => False.elim hw)
        replace hw := hw1
        clear hw1
        refine W.cs (cells' := cells) (slots' := slots) rfl rfl ?_
        refine lv_if_ne (tgt := 58) hx hb dX9_readsKey_53 (by decide) (fun c63 => ?_) (fun c63 => ?_)
        · replace hw := hw.1 c63
          refine lv_iconst (v := 0) hx hb dX9_readsKey_58 (by decide) ?_
          refine lv_istore_n (i := 3) (lv' := [(3, .int (0 : Int32)), (2, .int r51), (0, .ref o), (1, .int a0)]) hx hb dX9_readsKey_59 rfl hl (by decide) rfl (fun ls hl1 => ?_)
          replace hl := hl1
          clear hl1
          refine lv_iconst (v := 0) hx hb dX9_readsKey_60 (by decide) ?_
          refine lv_istore (i := 4) (lv' := [(4, .int (0 : Int32)), (3, .int (0 : Int32)), (2, .int r51), (0, .ref o), (1, .int a0)]) hx hb dX9_readsKey_61 hl (by decide) rfl (fun ls hl1 => ?_)
          replace hl := hl1
          clear hl1
          obtain ⟨f1, hw⟩ := hw
          exact wk_X9_readsKey_L63 hG f1 _ _ _ hk hn hZ (lv_sub hl [3, 1, 0] rfl) hw
        · replace hw := hw.2 c63
          exact wk_X9_readsKey_L56 hG _ hk hn hZ (lv_sub hl [] rfl) hw
  · replace hw := hw.2 c68
    refine lv_aload_n hx hb dX9_readsKey_13 rfl (lv_at hl 1 rfl) ?_
    refine lv_dup hx hb dX9_readsKey_14 rfl ?_
    obtain ⟨fs0, g66, hM0, hx0, hw⟩ := hw
    refine z_get hC hZ hM0 zc8 23 (by decide) q1743 (fun _ h9 => h9) hx0 dX9_readsKey_15 ?_
    refine lv_iconst (v := 1) hx hb dX9_readsKey_18 (by decide) ?_
    refine lv_iadd hx hb dX9_readsKey_19 ?_
    obtain ⟨fs0, hM0, hb0, hk0, hw⟩ := hw
    refine z_put hC hZ hM0 hb0 zc8 23 (by decide) q1743 (fun _ h9 => h9) (by decide) rfl rfl hk0 dX9_readsKey_20 (fun H locs hZ => ?_)
    generalize zu M _ _ = M at hw hZ
    refine lv_iload_n hx hb dX9_readsKey_23 rfl (lv_at hl 0 rfl) ?_
    exact z_iret hG hZ hk hn hw dX9_readsKey_24
abbrev rm_X9_readsBranches (d : Nat) : Room := { frames := 4 + 3 * d, cells := 0, slots := 0, locals := 132 + 77 * d }
abbrev rm_X9_readsBrace (d : Nat) : Room := { frames := 5 + 3 * d, cells := 0, slots := 0, locals := 159 + 77 * d }
abbrev rm_X9_readsMessage (d : Nat) : Room := { frames := 3 + 3 * d, cells := 0, slots := 0, locals := 109 + 77 * d }
def wp_X9_readsBranches_L66 (D : zD) (P : (Int32 → zM → Prop) → Nat → Int32 → Int32 → zM → Prop) (post : Int32 → zM → Prop) (o : Nat) (M : zM) : Prop :=
    (narrow .boolean (.int (0 : Int32)) = .int (0 : Int32) ∧ post (0 : Int32) M)
set_option maxHeartbeats 4000000 in
set_option maxRecDepth 100000 in
theorem wk_X9_readsBranches_L66 {p : Program} {l : Launch} {e : Env} {s : State} {m : MethodId} {args : Array Value} {below : List Frame} {meth : Method} {c : Code} {D : zD} {P : (Int32 → zM → Prop) → Nat → Int32 → Int32 → zM → Prop} {post : Int32 → zM → Prop} {d : Nat} {o : Nat} (hG : zGx p l s m args meth c cX9_readsBranches 8 "PluralBranchesModel" D (some .boolean) "readsBranches" []) (hP : ∀ (post : Int32 → zM → Prop) (o : Nat) (a0 : Int32) (a1 : Int32) (M : zM), P post o a0 a1 M → zMet l D yX9_readsMessage (ws_ yX9_readsMessage cX9_readsMessage 4 (some .boolean)) (rm_X9_readsMessage d) 0 0 [.ref o, .int a0, .int a1] M zI post (fun _ _ => False)) : ∀ {H : Heap} {locs : List Loc} {cells slots : Nat} {ls : Array Slot} (M : zM), cells ≤ 0 → slots ≤ 0 → zS D M H locs → lv_has ls 8 [] → wp_X9_readsBranches_L66 D P post o M → W p l e (rm_X9_readsBranches d) s m args below meth c H locs cells slots (vx_MQ below (zQ D zI post) (zX D (fun _ _ => False)) args s 0 0 (zA D)) (F0 m 66 ls []) := by
  have hC := hG.1
  have hx := hC.x
  have hb := hC.b
  have hown := hC.o
  have hts := hC.ts
  have hlt := hG.2.2.2.2.2
  intro H locs cells slots ls M hk hn hZ hl hw
  refine lv_iconst (v := 0) hx hb dX9_readsBranches_66 (by decide) ?_
  exact z_zret hG hZ hk hn hw.1 hw.2 dX9_readsBranches_67
def wp_X9_readsBranches_L209 (D : zD) (P : (Int32 → zM → Prop) → Nat → Int32 → Int32 → zM → Prop) (post : Int32 → zM → Prop) (o : Nat) (M : zM) : Prop :=
    (narrow .boolean (.int (0 : Int32)) = .int (0 : Int32) ∧ post (0 : Int32) M)
set_option maxHeartbeats 4000000 in
set_option maxRecDepth 100000 in
theorem wk_X9_readsBranches_L209 {p : Program} {l : Launch} {e : Env} {s : State} {m : MethodId} {args : Array Value} {below : List Frame} {meth : Method} {c : Code} {D : zD} {P : (Int32 → zM → Prop) → Nat → Int32 → Int32 → zM → Prop} {post : Int32 → zM → Prop} {d : Nat} {o : Nat} (hG : zGx p l s m args meth c cX9_readsBranches 8 "PluralBranchesModel" D (some .boolean) "readsBranches" []) (hP : ∀ (post : Int32 → zM → Prop) (o : Nat) (a0 : Int32) (a1 : Int32) (M : zM), P post o a0 a1 M → zMet l D yX9_readsMessage (ws_ yX9_readsMessage cX9_readsMessage 4 (some .boolean)) (rm_X9_readsMessage d) 0 0 [.ref o, .int a0, .int a1] M zI post (fun _ _ => False)) : ∀ {H : Heap} {locs : List Loc} {cells slots : Nat} {ls : Array Slot} (M : zM), cells ≤ 0 → slots ≤ 0 → zS D M H locs → lv_has ls 8 [] → wp_X9_readsBranches_L209 D P post o M → W p l e (rm_X9_readsBranches d) s m args below meth c H locs cells slots (vx_MQ below (zQ D zI post) (zX D (fun _ _ => False)) args s 0 0 (zA D)) (F0 m 209 ls []) := by
  have hC := hG.1
  have hx := hC.x
  have hb := hC.b
  have hown := hC.o
  have hts := hC.ts
  have hlt := hG.2.2.2.2.2
  intro H locs cells slots ls M hk hn hZ hl hw
  refine lv_iconst (v := 0) hx hb dX9_readsBranches_209 (by decide) ?_
  exact z_zret hG hZ hk hn hw.1 hw.2 dX9_readsBranches_210
def wp_X9_readsBranches_L141 (D : zD) (P : (Int32 → zM → Prop) → Nat → Int32 → Int32 → zM → Prop) (post : Int32 → zM → Prop) (o : Nat) (k3 : Int32 → Int32 → Int32 → Int32 → zM → Prop) (x1 : Int32) (x2 : Int32) (x3 : Int32) (x6 : Int32) (y0 : Int32) (M : zM) : Prop :=
    (zgR M o 8 34 fun g1 => (zgR M o 8 33 fun g2 => ((zd g2 fun b3 => zaI M b3 0 x1 fun v4 => ((zd g1 fun b5 => zsI D M b5 (((10 : Int32) * x1) + v4) x6 fun M => (zgR M o 8 35 fun g6 => (zgR M o 8 33 fun g7 => ((zd g7 fun b8 => zaI M b8 0 x1 fun v9 => (zgI M o 8 23 fun g10 => ((zd g6 fun b11 => zsI D M b11 (((10 : Int32) * x1) + v9) g10 fun M => (zgR M o 8 33 fun g12 => ((zd g12 fun b13 => zaI M b13 0 x1 fun v14 => (zsI D M b13 x1 (v14 + (1 : Int32)) fun M => ((zis M o [8] ∧ P (fun r15 M => ((r15 = 0 → wp_X9_readsBranches_L209 D P post o M) ∧ (¬ r15 = 0 → ((zis M o [8] ∧ wp_X9_takes D (fun r18 M => ((¬ r18 = 0 → k3 x1 x2 x3 y0 M) ∧ (r18 = 0 → wp_X9_readsBranches_L209 D P post o M))) o (41 : Int32) M))))) o x2 x3 M)))))))))))))))))))
set_option maxHeartbeats 4000000 in
set_option maxRecDepth 100000 in
theorem wk_X9_readsBranches_L141 {p : Program} {l : Launch} {e : Env} {s : State} {m : MethodId} {args : Array Value} {below : List Frame} {meth : Method} {c : Code} {D : zD} {P : (Int32 → zM → Prop) → Nat → Int32 → Int32 → zM → Prop} {post : Int32 → zM → Prop} {d : Nat} {o : Nat} (hG : zGx p l s m args meth c cX9_readsBranches 8 "PluralBranchesModel" D (some .boolean) "readsBranches" []) (hP : ∀ (post : Int32 → zM → Prop) (o : Nat) (a0 : Int32) (a1 : Int32) (M : zM), P post o a0 a1 M → zMet l D yX9_readsMessage (ws_ yX9_readsMessage cX9_readsMessage 4 (some .boolean)) (rm_X9_readsMessage d) 0 0 [.ref o, .int a0, .int a1] M zI post (fun _ _ => False)) (k3 : Int32 → Int32 → Int32 → Int32 → zM → Prop) (hk3 : ∀ {H : Heap} {locs : List Loc} {cells slots : Nat} {ls : Array Slot} (x1 : Int32) (x2 : Int32) (x3 : Int32) (x4 : Int32) (M : zM), cells ≤ 0 → slots ≤ 0 → zS D M H locs → lv_has ls 8 [(0, .ref o), (1, .int x1), (2, .int x2), (3, .int x3), (4, .int x4)] → k3 x1 x2 x3 x4 M → W p l e (rm_X9_readsBranches d) s m args below meth c H locs cells slots (vx_MQ below (zQ D zI post) (zX D (fun _ _ => False)) args s 0 0 (zA D)) (F0 m 3 ls [])) : ∀ {H : Heap} {locs : List Loc} {cells slots : Nat} {ls : Array Slot} (x1 : Int32) (x2 : Int32) (x3 : Int32) (x6 : Int32) (y0 : Int32) (M : zM), cells ≤ 0 → slots ≤ 0 → zS D M H locs → lv_has ls 8 [(0, .ref o), (1, .int x1), (2, .int x2), (3, .int x3), (6, .int x6)] → wp_X9_readsBranches_L141 D P post o k3 x1 x2 x3 x6 y0 M → W p l e (rm_X9_readsBranches d) s m args below meth c H locs cells slots (vx_MQ below (zQ D zI post) (zX D (fun _ _ => False)) args s 0 0 (zA D)) (F0 m 141 ls [.int y0]) := by
  have hC := hG.1
  have hx := hC.x
  have hb := hC.b
  have hown := hC.o
  have hts := hC.ts
  have hlt := hG.2.2.2.2.2
  intro H locs cells slots ls x1 x2 x3 x6 y0 M hk hn hZ hl hw
  refine lv_istore (i := 4) (lv' := [(4, .int y0), (0, .ref o), (1, .int x1), (2, .int x2), (3, .int x3), (6, .int x6)]) hx hb dX9_readsBranches_141 hl (by decide) rfl (fun ls hl1 => ?_)
  replace hl := hl1
  clear hl1
  refine lv_aload_n hx hb dX9_readsBranches_143 rfl (lv_at hl 1 rfl) ?_
  obtain ⟨fs0, g23, hM0, hx0, hw⟩ := hw
  refine z_get hC hZ hM0 zc8 34 (by decide) q1754 (fun _ h9 => h9) hx0 dX9_readsBranches_144 ?_
  refine lv_bipush (v := 10) hx hb dX9_readsBranches_147 (by decide) ?_
  refine lv_iload_n hx hb dX9_readsBranches_149 rfl (lv_at hl 2 rfl) ?_
  refine lv_imul hx hb dX9_readsBranches_150 ?_
  refine lv_aload_n hx hb dX9_readsBranches_151 rfl (lv_at hl 1 rfl) ?_
  obtain ⟨fs0, g24, hM0, hx0, hw⟩ := hw
  refine z_get hC hZ hM0 zc8 33 (by decide) q1753 (fun _ h9 => h9) hx0 dX9_readsBranches_152 ?_
  refine lv_iload_n hx hb dX9_readsBranches_155 rfl (lv_at hl 2 rfl) ?_
  obtain ⟨b25, hr0, hw⟩ := hw
  subst hr0
  obtain ⟨n0, f0, hM0, hi0, hw⟩ := hw
  refine z_iald hC hZ hM0 hi0 dX9_readsBranches_156 ?_
  generalize f0 _ = v26 at hw ⊢
  refine lv_iadd hx hb dX9_readsBranches_157 ?_
  refine lv_iload hx hb dX9_readsBranches_158 (lv_at hl 5 rfl) ?_
  obtain ⟨b27, hr0, hw⟩ := hw
  subst hr0
  obtain ⟨n0, f0, hM0, hb0, hi0, hw⟩ := hw
  refine z_iast hC hZ hM0 hb0 hi0 dX9_readsBranches_160 (fun H locs hZ => ?_)
  generalize zu M _ _ = M at hw hZ
  refine lv_aload_n hx hb dX9_readsBranches_161 rfl (lv_at hl 1 rfl) ?_
  obtain ⟨fs0, g28, hM0, hx0, hw⟩ := hw
  refine z_get hC hZ hM0 zc8 35 (by decide) q1755 (fun _ h9 => h9) hx0 dX9_readsBranches_162 ?_
  refine lv_bipush (v := 10) hx hb dX9_readsBranches_165 (by decide) ?_
  refine lv_iload_n hx hb dX9_readsBranches_167 rfl (lv_at hl 2 rfl) ?_
  refine lv_imul hx hb dX9_readsBranches_168 ?_
  refine lv_aload_n hx hb dX9_readsBranches_169 rfl (lv_at hl 1 rfl) ?_
  obtain ⟨fs0, g29, hM0, hx0, hw⟩ := hw
  refine z_get hC hZ hM0 zc8 33 (by decide) q1753 (fun _ h9 => h9) hx0 dX9_readsBranches_170 ?_
  refine lv_iload_n hx hb dX9_readsBranches_173 rfl (lv_at hl 2 rfl) ?_
  obtain ⟨b30, hr0, hw⟩ := hw
  subst hr0
  obtain ⟨n0, f0, hM0, hi0, hw⟩ := hw
  refine z_iald hC hZ hM0 hi0 dX9_readsBranches_174 ?_
  generalize f0 _ = v31 at hw ⊢
  refine lv_iadd hx hb dX9_readsBranches_175 ?_
  refine lv_aload_n hx hb dX9_readsBranches_176 rfl (lv_at hl 1 rfl) ?_
  obtain ⟨fs0, g32, hM0, hx0, hw⟩ := hw
  refine z_get hC hZ hM0 zc8 23 (by decide) q1743 (fun _ h9 => h9) hx0 dX9_readsBranches_177 ?_
  obtain ⟨b33, hr0, hw⟩ := hw
  subst hr0
  obtain ⟨n0, f0, hM0, hb0, hi0, hw⟩ := hw
  refine z_iast hC hZ hM0 hb0 hi0 dX9_readsBranches_180 (fun H locs hZ => ?_)
  generalize zu M _ _ = M at hw hZ
  refine lv_aload_n hx hb dX9_readsBranches_181 rfl (lv_at hl 1 rfl) ?_
  obtain ⟨fs0, g34, hM0, hx0, hw⟩ := hw
  refine z_get hC hZ hM0 zc8 33 (by decide) q1753 (fun _ h9 => h9) hx0 dX9_readsBranches_182 ?_
  refine lv_iload_n hx hb dX9_readsBranches_185 rfl (lv_at hl 2 rfl) ?_
  refine lv_dup2_11 hx hb dX9_readsBranches_186 rfl (zcat _) ?_
  obtain ⟨b35, hr0, hw⟩ := hw
  subst hr0
  obtain ⟨n0, f0, hM0, hi0, hw⟩ := hw
  refine z_iald hC hZ hM0 hi0 dX9_readsBranches_187 ?_
  generalize f0 _ = v36 at hw ⊢
  refine lv_iconst (v := 1) hx hb dX9_readsBranches_188 (by decide) ?_
  refine lv_iadd hx hb dX9_readsBranches_189 ?_
  obtain ⟨n0, f0, hM0, hb0, hi0, hw⟩ := hw
  refine z_iast hC hZ hM0 hb0 hi0 dX9_readsBranches_190 (fun H locs hZ => ?_)
  generalize zu M _ _ = M at hw hZ
  refine lv_aload_n hx hb dX9_readsBranches_191 rfl (lv_at hl 1 rfl) ?_
  refine lv_iload_n hx hb dX9_readsBranches_192 rfl (lv_at hl 3 rfl) ?_
  refine lv_iload_n hx hb dX9_readsBranches_193 rfl (lv_at hl 4 rfl) ?_
  obtain ⟨⟨ci0, fs0, hci0, hM0⟩, hw⟩ := hw
  obtain rfl : ci0 = 8 := List.mem_singleton.mp hci0
  refine z_callI hZ (vx_runV (As := [.int x2, .int x3]) (rest := []) hC.fix (hP _ _ _ _ _ hw) (cwV 2 hts (lw_V q1966 q1968 qs32 q83 q1969) rfl rfl rfl ⟨rfl, dd_X9_readsMessage⟩ ⟨(show 3 + 3 * d + 1 ≤ 4 + 3 * d by omega), (show 8 + (4 + 11) + (109 + 77 * d) ≤ 132 + 77 * d by omega)⟩) (z_preV hC hZ hM0 zc8) rfl rfl hl.1 rfl (lv_room (Nat.zero_le _)) dX9_readsBranches_194 ⟨hk, hn⟩) (fun r37 M H locs hw1 hZ => ?_) (fun q M H locs ci fs E T9 N9 hw hZ hc1 hM1 hb1 => False.elim hw)
  replace hw := hw1
  clear hw1
  refine W.cs (cells' := cells) (slots' := slots) rfl rfl ?_
  refine lv_if_eq (tgt := 209) hx hb dX9_readsBranches_197 (by decide) (fun c44 => ?_) (fun c44 => ?_)
  · replace hw := hw.1 c44
    exact wk_X9_readsBranches_L209 hG hP _ hk hn hZ (lv_sub hl [] rfl) hw
  · replace hw := hw.2 c44
    refine lv_aload_n hx hb dX9_readsBranches_200 rfl (lv_at hl 1 rfl) ?_
    refine lv_bipush (v := 41) hx hb dX9_readsBranches_201 (by decide) ?_
    obtain ⟨⟨ci0, fs0, hci0, hM0⟩, hw⟩ := hw
    obtain rfl : ci0 = 8 := List.mem_singleton.mp hci0
    refine z_callI hZ (vx_runV (As := [.int (41 : Int32)]) (rest := []) hC.fix (w_X9_takes hlt hw) (cwV 1 hts (lw_V q1993 q1995 qs37 q83 q1996) rfl rfl rfl ⟨rfl, dd_X9_takes⟩ ⟨(show 2 + 1 ≤ 4 + 3 * d by omega), (show 8 + (2 + 11) + (84) ≤ 132 + 77 * d by omega)⟩) (z_preV hC hZ hM0 zc8) rfl rfl hl.1 rfl (lv_room (Nat.zero_le _)) dX9_readsBranches_203 ⟨hk, hn⟩) (fun r40 M H locs hw1 hZ => ?_) (fun q M H locs ci fs E T9 N9 hw hZ hc1 hM1 hb1 => False.elim hw)
    replace hw := hw1
    clear hw1
    refine W.cs (cells' := cells) (slots' := slots) rfl rfl ?_
    refine lv_if_ne (tgt := 211) hx hb dX9_readsBranches_206 (by decide) (fun c43 => ?_) (fun c43 => ?_)
    · replace hw := hw.1 c43
      refine lv_goto (tgt := 3) hx hb dX9_readsBranches_211 (by decide) ?_
      exact hk3 _ _ _ _ _ hk hn hZ (lv_sub hl [1, 2, 3, 4, 0] rfl) hw
    · replace hw := hw.2 c43
      exact wk_X9_readsBranches_L209 hG hP _ hk hn hZ (lv_sub hl [] rfl) hw
def wp_X9_readsBranches_L136 (D : zD) (P : (Int32 → zM → Prop) → Nat → Int32 → Int32 → zM → Prop) (post : Int32 → zM → Prop) (o : Nat) (k3 : Int32 → Int32 → Int32 → Int32 → zM → Prop) (x1 : Int32) (x2 : Int32) (x3 : Int32) (x6 : Int32) (M : zM) : Prop :=
    wp_X9_readsBranches_L141 D P post o k3 x1 x2 x3 x6 (1 : Int32) M
set_option maxHeartbeats 4000000 in
set_option maxRecDepth 100000 in
theorem wk_X9_readsBranches_L136 {p : Program} {l : Launch} {e : Env} {s : State} {m : MethodId} {args : Array Value} {below : List Frame} {meth : Method} {c : Code} {D : zD} {P : (Int32 → zM → Prop) → Nat → Int32 → Int32 → zM → Prop} {post : Int32 → zM → Prop} {d : Nat} {o : Nat} (hG : zGx p l s m args meth c cX9_readsBranches 8 "PluralBranchesModel" D (some .boolean) "readsBranches" []) (hP : ∀ (post : Int32 → zM → Prop) (o : Nat) (a0 : Int32) (a1 : Int32) (M : zM), P post o a0 a1 M → zMet l D yX9_readsMessage (ws_ yX9_readsMessage cX9_readsMessage 4 (some .boolean)) (rm_X9_readsMessage d) 0 0 [.ref o, .int a0, .int a1] M zI post (fun _ _ => False)) (k3 : Int32 → Int32 → Int32 → Int32 → zM → Prop) (hk3 : ∀ {H : Heap} {locs : List Loc} {cells slots : Nat} {ls : Array Slot} (x1 : Int32) (x2 : Int32) (x3 : Int32) (x4 : Int32) (M : zM), cells ≤ 0 → slots ≤ 0 → zS D M H locs → lv_has ls 8 [(0, .ref o), (1, .int x1), (2, .int x2), (3, .int x3), (4, .int x4)] → k3 x1 x2 x3 x4 M → W p l e (rm_X9_readsBranches d) s m args below meth c H locs cells slots (vx_MQ below (zQ D zI post) (zX D (fun _ _ => False)) args s 0 0 (zA D)) (F0 m 3 ls [])) : ∀ {H : Heap} {locs : List Loc} {cells slots : Nat} {ls : Array Slot} (x1 : Int32) (x2 : Int32) (x3 : Int32) (x6 : Int32) (M : zM), cells ≤ 0 → slots ≤ 0 → zS D M H locs → lv_has ls 8 [(0, .ref o), (1, .int x1), (2, .int x2), (3, .int x3), (6, .int x6)] → wp_X9_readsBranches_L136 D P post o k3 x1 x2 x3 x6 M → W p l e (rm_X9_readsBranches d) s m args below meth c H locs cells slots (vx_MQ below (zQ D zI post) (zX D (fun _ _ => False)) args s 0 0 (zA D)) (F0 m 136 ls []) := by
  have hC := hG.1
  have hx := hC.x
  have hb := hC.b
  have hown := hC.o
  have hts := hC.ts
  have hlt := hG.2.2.2.2.2
  intro H locs cells slots ls x1 x2 x3 x6 M hk hn hZ hl hw
  refine lv_iconst (v := 1) hx hb dX9_readsBranches_136 (by decide) ?_
  refine lv_goto (tgt := 141) hx hb dX9_readsBranches_137 (by decide) ?_
  exact wk_X9_readsBranches_L141 hG hP k3 hk3 _ _ _ _ _ _ hk hn hZ (lv_sub hl [0, 1, 2, 3, 4] rfl) hw
def wp_X9_readsBranches_L133 (D : zD) (P : (Int32 → zM → Prop) → Nat → Int32 → Int32 → zM → Prop) (post : Int32 → zM → Prop) (o : Nat) (k3 : Int32 → Int32 → Int32 → Int32 → zM → Prop) (x1 : Int32) (x2 : Int32) (x3 : Int32) (x6 : Int32) (y0 : Int32) (y1 : Int32) (M : zM) : Prop :=
    ((¬ y0 = y1 → wp_X9_readsBranches_L141 D P post o k3 x1 x2 x3 x6 (0 : Int32) M) ∧ (y0 = y1 → wp_X9_readsBranches_L136 D P post o k3 x1 x2 x3 x6 M))
set_option maxHeartbeats 4000000 in
set_option maxRecDepth 100000 in
theorem wk_X9_readsBranches_L133 {p : Program} {l : Launch} {e : Env} {s : State} {m : MethodId} {args : Array Value} {below : List Frame} {meth : Method} {c : Code} {D : zD} {P : (Int32 → zM → Prop) → Nat → Int32 → Int32 → zM → Prop} {post : Int32 → zM → Prop} {d : Nat} {o : Nat} (hG : zGx p l s m args meth c cX9_readsBranches 8 "PluralBranchesModel" D (some .boolean) "readsBranches" []) (hP : ∀ (post : Int32 → zM → Prop) (o : Nat) (a0 : Int32) (a1 : Int32) (M : zM), P post o a0 a1 M → zMet l D yX9_readsMessage (ws_ yX9_readsMessage cX9_readsMessage 4 (some .boolean)) (rm_X9_readsMessage d) 0 0 [.ref o, .int a0, .int a1] M zI post (fun _ _ => False)) (k3 : Int32 → Int32 → Int32 → Int32 → zM → Prop) (hk3 : ∀ {H : Heap} {locs : List Loc} {cells slots : Nat} {ls : Array Slot} (x1 : Int32) (x2 : Int32) (x3 : Int32) (x4 : Int32) (M : zM), cells ≤ 0 → slots ≤ 0 → zS D M H locs → lv_has ls 8 [(0, .ref o), (1, .int x1), (2, .int x2), (3, .int x3), (4, .int x4)] → k3 x1 x2 x3 x4 M → W p l e (rm_X9_readsBranches d) s m args below meth c H locs cells slots (vx_MQ below (zQ D zI post) (zX D (fun _ _ => False)) args s 0 0 (zA D)) (F0 m 3 ls [])) : ∀ {H : Heap} {locs : List Loc} {cells slots : Nat} {ls : Array Slot} (x1 : Int32) (x2 : Int32) (x3 : Int32) (x6 : Int32) (y0 : Int32) (y1 : Int32) (M : zM), cells ≤ 0 → slots ≤ 0 → zS D M H locs → lv_has ls 8 [(0, .ref o), (1, .int x1), (2, .int x2), (3, .int x3), (6, .int x6)] → wp_X9_readsBranches_L133 D P post o k3 x1 x2 x3 x6 y0 y1 M → W p l e (rm_X9_readsBranches d) s m args below meth c H locs cells slots (vx_MQ below (zQ D zI post) (zX D (fun _ _ => False)) args s 0 0 (zA D)) (F0 m 133 ls [.int y1, .int y0]) := by
  have hC := hG.1
  have hx := hC.x
  have hb := hC.b
  have hown := hC.o
  have hts := hC.ts
  have hlt := hG.2.2.2.2.2
  intro H locs cells slots ls x1 x2 x3 x6 y0 y1 M hk hn hZ hl hw
  refine lv_icmp_ne (tgt := 140) hx hb dX9_readsBranches_133 (by decide) (fun c46 => ?_) (fun c46 => ?_)
  · replace hw := hw.1 c46
    refine lv_iconst (v := 0) hx hb dX9_readsBranches_140 (by decide) ?_
    exact wk_X9_readsBranches_L141 hG hP k3 hk3 _ _ _ _ _ _ hk hn hZ (lv_sub hl [0, 1, 2, 3, 4] rfl) hw
  · replace hw := hw.2 c46
    exact wk_X9_readsBranches_L136 hG hP k3 hk3 _ _ _ _ _ hk hn hZ (lv_sub hl [0, 1, 2, 3, 4] rfl) hw
def wp_X9_readsBranches_L105 (D : zD) (P : (Int32 → zM → Prop) → Nat → Int32 → Int32 → zM → Prop) (post : Int32 → zM → Prop) (o : Nat) (k3 : Int32 → Int32 → Int32 → Int32 → zM → Prop) (k71 : Int32 → Int32 → Int32 → Int32 → Int32 → Int32 → Int32 → zM → Prop) (x1 : Int32) (x2 : Int32) (x3 : Int32) (x4 : Int32) (x5 : Int32) (x6 : Int32) (x7 : Int32) (M : zM) : Prop :=
    k71 x1 x2 x3 x4 x5 x6 (x7 + 1) M
set_option maxHeartbeats 4000000 in
set_option maxRecDepth 100000 in
theorem wk_X9_readsBranches_L105 {p : Program} {l : Launch} {e : Env} {s : State} {m : MethodId} {args : Array Value} {below : List Frame} {meth : Method} {c : Code} {D : zD} {P : (Int32 → zM → Prop) → Nat → Int32 → Int32 → zM → Prop} {post : Int32 → zM → Prop} {d : Nat} {o : Nat} (hG : zGx p l s m args meth c cX9_readsBranches 8 "PluralBranchesModel" D (some .boolean) "readsBranches" []) (hP : ∀ (post : Int32 → zM → Prop) (o : Nat) (a0 : Int32) (a1 : Int32) (M : zM), P post o a0 a1 M → zMet l D yX9_readsMessage (ws_ yX9_readsMessage cX9_readsMessage 4 (some .boolean)) (rm_X9_readsMessage d) 0 0 [.ref o, .int a0, .int a1] M zI post (fun _ _ => False)) (k3 : Int32 → Int32 → Int32 → Int32 → zM → Prop) (hk3 : ∀ {H : Heap} {locs : List Loc} {cells slots : Nat} {ls : Array Slot} (x1 : Int32) (x2 : Int32) (x3 : Int32) (x4 : Int32) (M : zM), cells ≤ 0 → slots ≤ 0 → zS D M H locs → lv_has ls 8 [(0, .ref o), (1, .int x1), (2, .int x2), (3, .int x3), (4, .int x4)] → k3 x1 x2 x3 x4 M → W p l e (rm_X9_readsBranches d) s m args below meth c H locs cells slots (vx_MQ below (zQ D zI post) (zX D (fun _ _ => False)) args s 0 0 (zA D)) (F0 m 3 ls [])) (k71 : Int32 → Int32 → Int32 → Int32 → Int32 → Int32 → Int32 → zM → Prop) (hk71 : ∀ {H : Heap} {locs : List Loc} {cells slots : Nat} {ls : Array Slot} (x1 : Int32) (x2 : Int32) (x3 : Int32) (x4 : Int32) (x5 : Int32) (x6 : Int32) (x7 : Int32) (M : zM), cells ≤ 0 → slots ≤ 0 → zS D M H locs → lv_has ls 8 [(0, .ref o), (1, .int x1), (2, .int x2), (3, .int x3), (4, .int x4), (5, .int x5), (6, .int x6), (7, .int x7)] → k71 x1 x2 x3 x4 x5 x6 x7 M → W p l e (rm_X9_readsBranches d) s m args below meth c H locs cells slots (vx_MQ below (zQ D zI post) (zX D (fun _ _ => False)) args s 0 0 (zA D)) (F0 m 71 ls [])) : ∀ {H : Heap} {locs : List Loc} {cells slots : Nat} {ls : Array Slot} (x1 : Int32) (x2 : Int32) (x3 : Int32) (x4 : Int32) (x5 : Int32) (x6 : Int32) (x7 : Int32) (M : zM), cells ≤ 0 → slots ≤ 0 → zS D M H locs → lv_has ls 8 [(0, .ref o), (1, .int x1), (2, .int x2), (3, .int x3), (4, .int x4), (5, .int x5), (6, .int x6), (7, .int x7)] → wp_X9_readsBranches_L105 D P post o k3 k71 x1 x2 x3 x4 x5 x6 x7 M → W p l e (rm_X9_readsBranches d) s m args below meth c H locs cells slots (vx_MQ below (zQ D zI post) (zX D (fun _ _ => False)) args s 0 0 (zA D)) (F0 m 105 ls []) := by
  have hC := hG.1
  have hx := hC.x
  have hb := hC.b
  have hown := hC.o
  have hts := hC.ts
  have hlt := hG.2.2.2.2.2
  intro H locs cells slots ls x1 x2 x3 x4 x5 x6 x7 M hk hn hZ hl hw
  refine lv_iinc (v := (x7 + 1)) (lv' := [(7, .int (x7 + 1)), (0, .ref o), (1, .int x1), (2, .int x2), (3, .int x3), (4, .int x4), (5, .int x5), (6, .int x6)]) hx hb dX9_readsBranches_105 hl (k := 7) rfl rfl (by decide) rfl (fun ls hl1 => ?_)
  replace hl := hl1
  clear hl1
  refine lv_goto (tgt := 71) hx hb dX9_readsBranches_108 (by decide) ?_
  exact hk71 _ _ _ _ _ _ _ _ hk hn hZ (lv_sub hl [1, 2, 3, 4, 5, 6, 7, 0] rfl) hw
def wp_X9_readsBranches_L71 (D : zD) (P : (Int32 → zM → Prop) → Nat → Int32 → Int32 → zM → Prop) (post : Int32 → zM → Prop) (o : Nat) (k3 : Int32 → Int32 → Int32 → Int32 → zM → Prop) : Nat → Int32 → Int32 → Int32 → Int32 → Int32 → Int32 → Int32 → zM → Prop
  | 0 => fun _ _ _ _ _ _ _ _ => False
  | f + 1 => fun x1 x2 x3 x4 x5 x6 x7 M =>
    (zgR M o 8 33 fun g47 => ((zd g47 fun b48 => zaI M b48 0 x1 fun v49 => ((v49 ≤ x7 → ((¬ x4 = 0 → wp_X9_readsBranches_L136 D P post o k3 x1 x2 x3 x6 M) ∧ (x4 = 0 → (zgR M o 8 31 fun g50 => ((zd g50 fun b51 => zaI M b51 0 x1 fun v52 => ((¬ v52 = (1 : Int32) → wp_X9_readsBranches_L133 D P post o k3 x1 x2 x3 x6 x6 (3 : Int32) M) ∧ (v52 = (1 : Int32) → wp_X9_readsBranches_L133 D P post o k3 x1 x2 x3 x6 x6 (5 : Int32) M)))))))) ∧ (¬ v49 ≤ x7 → (zgR M o 8 34 fun g55 => ((zd g55 fun b56 => zaI M b56 0 (((10 : Int32) * x1) + x7) fun v57 => ((¬ v57 = x6 → wp_X9_readsBranches_L105 D P post o k3 (wp_X9_readsBranches_L71 D P post o k3 f) x1 x2 x3 x4 x5 x6 x7 M) ∧ (v57 = x6 → ((zis M o [8] ∧ wp_X9_isWrong D (fun _ M => wp_X9_readsBranches_L105 D P post o k3 (wp_X9_readsBranches_L71 D P post o k3 f) x1 x2 x3 x4 x5 x6 x7 M) o x5 M))))))))))))
set_option maxHeartbeats 4000000 in
set_option maxRecDepth 100000 in
theorem wk_X9_readsBranches_L71 {p : Program} {l : Launch} {e : Env} {s : State} {m : MethodId} {args : Array Value} {below : List Frame} {meth : Method} {c : Code} {D : zD} {P : (Int32 → zM → Prop) → Nat → Int32 → Int32 → zM → Prop} {post : Int32 → zM → Prop} {d : Nat} {o : Nat} (hG : zGx p l s m args meth c cX9_readsBranches 8 "PluralBranchesModel" D (some .boolean) "readsBranches" []) (hP : ∀ (post : Int32 → zM → Prop) (o : Nat) (a0 : Int32) (a1 : Int32) (M : zM), P post o a0 a1 M → zMet l D yX9_readsMessage (ws_ yX9_readsMessage cX9_readsMessage 4 (some .boolean)) (rm_X9_readsMessage d) 0 0 [.ref o, .int a0, .int a1] M zI post (fun _ _ => False)) (k3 : Int32 → Int32 → Int32 → Int32 → zM → Prop) (hk3 : ∀ {H : Heap} {locs : List Loc} {cells slots : Nat} {ls : Array Slot} (x1 : Int32) (x2 : Int32) (x3 : Int32) (x4 : Int32) (M : zM), cells ≤ 0 → slots ≤ 0 → zS D M H locs → lv_has ls 8 [(0, .ref o), (1, .int x1), (2, .int x2), (3, .int x3), (4, .int x4)] → k3 x1 x2 x3 x4 M → W p l e (rm_X9_readsBranches d) s m args below meth c H locs cells slots (vx_MQ below (zQ D zI post) (zX D (fun _ _ => False)) args s 0 0 (zA D)) (F0 m 3 ls [])) : ∀ (f : Nat), ∀ {H : Heap} {locs : List Loc} {cells slots : Nat} {ls : Array Slot} (x1 : Int32) (x2 : Int32) (x3 : Int32) (x4 : Int32) (x5 : Int32) (x6 : Int32) (x7 : Int32) (M : zM), cells ≤ 0 → slots ≤ 0 → zS D M H locs → lv_has ls 8 [(0, .ref o), (1, .int x1), (2, .int x2), (3, .int x3), (4, .int x4), (5, .int x5), (6, .int x6), (7, .int x7)] → wp_X9_readsBranches_L71 D P post o k3 f x1 x2 x3 x4 x5 x6 x7 M → W p l e (rm_X9_readsBranches d) s m args below meth c H locs cells slots (vx_MQ below (zQ D zI post) (zX D (fun _ _ => False)) args s 0 0 (zA D)) (F0 m 71 ls []) := by
  have hC := hG.1
  have hx := hC.x
  have hb := hC.b
  have hown := hC.o
  have hts := hC.ts
  have hlt := hG.2.2.2.2.2
  intro f
  induction f with
  | zero =>
    intro H locs cells slots ls x1 x2 x3 x4 x5 x6 x7 M hk hn hZ hl hw
    exact absurd hw (fun h => h)
  | succ f ih =>
    intro H locs cells slots ls x1 x2 x3 x4 x5 x6 x7 M hk hn hZ hl hw
    refine lv_iload hx hb dX9_readsBranches_71 (lv_at hl 7 rfl) ?_
    refine lv_aload_n hx hb dX9_readsBranches_73 rfl (lv_at hl 0 rfl) ?_
    obtain ⟨fs0, g63, hM0, hx0, hw⟩ := hw
    refine z_get hC hZ hM0 zc8 33 (by decide) q1753 (fun _ h9 => h9) hx0 dX9_readsBranches_74 ?_
    refine lv_iload_n hx hb dX9_readsBranches_77 rfl (lv_at hl 1 rfl) ?_
    obtain ⟨b64, hr0, hw⟩ := hw
    subst hr0
    obtain ⟨n0, f0, hM0, hi0, hw⟩ := hw
    refine z_iald hC hZ hM0 hi0 dX9_readsBranches_78 ?_
    generalize f0 _ = v65 at hw ⊢
    refine lv_icmp_ge (tgt := 111) hx hb dX9_readsBranches_79 (by decide) (fun c78 => ?_) (fun c78 => ?_)
    · replace hw := hw.1 c78
      refine lv_iload hx hb dX9_readsBranches_111 (lv_at hl 4 rfl) ?_
      refine lv_if_ne (tgt := 136) hx hb dX9_readsBranches_113 (by decide) (fun c70 => ?_) (fun c70 => ?_)
      · replace hw := hw.1 c70
        exact wk_X9_readsBranches_L136 hG hP k3 hk3 _ _ _ _ _ hk hn hZ (lv_sub hl [0, 1, 2, 3, 6] rfl) hw
      · replace hw := hw.2 c70
        refine lv_iload hx hb dX9_readsBranches_116 (lv_at hl 6 rfl) ?_
        refine lv_aload_n hx hb dX9_readsBranches_118 rfl (lv_at hl 0 rfl) ?_
        obtain ⟨fs0, g66, hM0, hx0, hw⟩ := hw
        refine z_get hC hZ hM0 zc8 31 (by decide) q1751 (fun _ h9 => h9) hx0 dX9_readsBranches_119 ?_
        refine lv_iload_n hx hb dX9_readsBranches_122 rfl (lv_at hl 1 rfl) ?_
        obtain ⟨b67, hr0, hw⟩ := hw
        subst hr0
        obtain ⟨n0, f0, hM0, hi0, hw⟩ := hw
        refine z_iald hC hZ hM0 hi0 dX9_readsBranches_123 ?_
        generalize f0 _ = v68 at hw ⊢
        refine lv_iconst (v := 1) hx hb dX9_readsBranches_124 (by decide) ?_
        refine lv_icmp_ne (tgt := 132) hx hb dX9_readsBranches_125 (by decide) (fun c69 => ?_) (fun c69 => ?_)
        · replace hw := hw.1 c69
          refine lv_iconst (v := 3) hx hb dX9_readsBranches_132 (by decide) ?_
          exact wk_X9_readsBranches_L133 hG hP k3 hk3 _ _ _ _ _ _ _ hk hn hZ (lv_sub hl [0, 1, 2, 3, 6] rfl) hw
        · replace hw := hw.2 c69
          refine lv_iconst (v := 5) hx hb dX9_readsBranches_128 (by decide) ?_
          refine lv_goto (tgt := 133) hx hb dX9_readsBranches_129 (by decide) ?_
          exact wk_X9_readsBranches_L133 hG hP k3 hk3 _ _ _ _ _ _ _ hk hn hZ (lv_sub hl [0, 1, 2, 3, 6] rfl) hw
    · replace hw := hw.2 c78
      refine lv_aload_n hx hb dX9_readsBranches_82 rfl (lv_at hl 0 rfl) ?_
      obtain ⟨fs0, g71, hM0, hx0, hw⟩ := hw
      refine z_get hC hZ hM0 zc8 34 (by decide) q1754 (fun _ h9 => h9) hx0 dX9_readsBranches_83 ?_
      refine lv_bipush (v := 10) hx hb dX9_readsBranches_86 (by decide) ?_
      refine lv_iload_n hx hb dX9_readsBranches_88 rfl (lv_at hl 1 rfl) ?_
      refine lv_imul hx hb dX9_readsBranches_89 ?_
      refine lv_iload hx hb dX9_readsBranches_90 (lv_at hl 7 rfl) ?_
      refine lv_iadd hx hb dX9_readsBranches_92 ?_
      obtain ⟨b72, hr0, hw⟩ := hw
      subst hr0
      obtain ⟨n0, f0, hM0, hi0, hw⟩ := hw
      refine z_iald hC hZ hM0 hi0 dX9_readsBranches_93 ?_
      generalize f0 _ = v73 at hw ⊢
      refine lv_iload hx hb dX9_readsBranches_94 (lv_at hl 6 rfl) ?_
      refine lv_icmp_ne (tgt := 105) hx hb dX9_readsBranches_96 (by decide) (fun c77 => ?_) (fun c77 => ?_)
      · replace hw := hw.1 c77
        exact wk_X9_readsBranches_L105 hG hP k3 hk3 _ (fun {_ _ _ _ _} _z0 _z1 _z2 _z3 _z4 _z5 _z6 _z7 h1 h2 h3 h4 h5 => ih _z0 _z1 _z2 _z3 _z4 _z5 _z6 _z7 h1 h2 h3 h4 h5) _ _ _ _ _ _ _ _ hk hn hZ (lv_sub hl [0, 1, 2, 3, 4, 5, 6, 7] rfl) hw
      · replace hw := hw.2 c77
        refine lv_aload_n hx hb dX9_readsBranches_99 rfl (lv_at hl 0 rfl) ?_
        refine lv_iload hx hb dX9_readsBranches_100 (lv_at hl 5 rfl) ?_
        obtain ⟨⟨ci0, fs0, hci0, hM0⟩, hw⟩ := hw
        obtain rfl : ci0 = 8 := List.mem_singleton.mp hci0
        refine z_callU hZ (vx_runV (As := [.int x5]) (rest := []) hC.fix (w_X9_isWrong hlt hw) (cwV 1 hts (lw_V q1989 q1991 qs36 q83 q1992) rfl rfl rfl ⟨rfl, dd_X9_isWrong⟩ ⟨(show 1 + 1 ≤ 4 + 3 * d by omega), (show 8 + (2 + 11) + (64) ≤ 132 + 77 * d by omega)⟩) (z_preV hC hZ hM0 zc8) rfl rfl hl.1 rfl (lv_room (Nat.zero_le _)) dX9_readsBranches_102 ⟨hk, hn⟩) (fun r74 M H locs hw1 hZ => ?_) (fun q M H locs ci fs E T9 N9 hw hZ hc1 hM1 hb1 => False.elim hw)
        replace hw := hw1
        clear hw1
        refine W.cs (cells' := cells) (slots' := slots) rfl rfl ?_
        exact wk_X9_readsBranches_L105 hG hP k3 hk3 _ (fun {_ _ _ _ _} _z0 _z1 _z2 _z3 _z4 _z5 _z6 _z7 h1 h2 h3 h4 h5 => ih _z0 _z1 _z2 _z3 _z4 _z5 _z6 _z7 h1 h2 h3 h4 h5) _ _ _ _ _ _ _ _ hk hn hZ (lv_sub hl [0, 1, 2, 3, 4, 5, 6, 7] rfl) hw
def wp_X9_readsBranches_L21 (D : zD) (P : (Int32 → zM → Prop) → Nat → Int32 → Int32 → zM → Prop) (post : Int32 → zM → Prop) (o : Nat) (k3 : Int32 → Int32 → Int32 → Int32 → zM → Prop) (x1 : Int32) (x2 : Int32) (x3 : Int32) (x4 : Int32) (M : zM) : Prop :=
    (zgR M o 8 33 fun g79 => ((zd g79 fun b80 => zaI M b80 0 x1 fun v81 => ((¬ v81 = (10 : Int32) → (zgI M o 8 23 fun g82 => (zgR M o 8 31 fun g83 => ((zd g83 fun b84 => zaI M b84 0 x1 fun v85 => ((zis M o [8] ∧ wp_X9_readsKey D (fun r86 M => ((r86 < 0 → wp_X9_readsBranches_L66 D P post o M) ∧ (¬ r86 < 0 → ((zis M o [8] ∧ wp_X9_takes D (fun r89 M => ((¬ r89 = 0 → (∃ f, wp_X9_readsBranches_L71 D P post o k3 f x1 x2 x3 x4 g82 r86 (0 : Int32) M)) ∧ (r89 = 0 → wp_X9_readsBranches_L66 D P post o M))) o (40 : Int32) M))))) o v85 M))))))) ∧ (v81 = (10 : Int32) → (narrow .boolean (.int (0 : Int32)) = .int (0 : Int32) ∧ post (0 : Int32) M))))))
set_option maxHeartbeats 4000000 in
set_option maxRecDepth 100000 in
theorem wk_X9_readsBranches_L21 {p : Program} {l : Launch} {e : Env} {s : State} {m : MethodId} {args : Array Value} {below : List Frame} {meth : Method} {c : Code} {D : zD} {P : (Int32 → zM → Prop) → Nat → Int32 → Int32 → zM → Prop} {post : Int32 → zM → Prop} {d : Nat} {o : Nat} (hG : zGx p l s m args meth c cX9_readsBranches 8 "PluralBranchesModel" D (some .boolean) "readsBranches" []) (hP : ∀ (post : Int32 → zM → Prop) (o : Nat) (a0 : Int32) (a1 : Int32) (M : zM), P post o a0 a1 M → zMet l D yX9_readsMessage (ws_ yX9_readsMessage cX9_readsMessage 4 (some .boolean)) (rm_X9_readsMessage d) 0 0 [.ref o, .int a0, .int a1] M zI post (fun _ _ => False)) (k3 : Int32 → Int32 → Int32 → Int32 → zM → Prop) (hk3 : ∀ {H : Heap} {locs : List Loc} {cells slots : Nat} {ls : Array Slot} (x1 : Int32) (x2 : Int32) (x3 : Int32) (x4 : Int32) (M : zM), cells ≤ 0 → slots ≤ 0 → zS D M H locs → lv_has ls 8 [(0, .ref o), (1, .int x1), (2, .int x2), (3, .int x3), (4, .int x4)] → k3 x1 x2 x3 x4 M → W p l e (rm_X9_readsBranches d) s m args below meth c H locs cells slots (vx_MQ below (zQ D zI post) (zX D (fun _ _ => False)) args s 0 0 (zA D)) (F0 m 3 ls [])) : ∀ {H : Heap} {locs : List Loc} {cells slots : Nat} {ls : Array Slot} (x1 : Int32) (x2 : Int32) (x3 : Int32) (x4 : Int32) (M : zM), cells ≤ 0 → slots ≤ 0 → zS D M H locs → lv_has ls 8 [(0, .ref o), (1, .int x1), (2, .int x2), (3, .int x3), (4, .int x4)] → wp_X9_readsBranches_L21 D P post o k3 x1 x2 x3 x4 M → W p l e (rm_X9_readsBranches d) s m args below meth c H locs cells slots (vx_MQ below (zQ D zI post) (zX D (fun _ _ => False)) args s 0 0 (zA D)) (F0 m 21 ls []) := by
  have hC := hG.1
  have hx := hC.x
  have hb := hC.b
  have hown := hC.o
  have hts := hC.ts
  have hlt := hG.2.2.2.2.2
  intro H locs cells slots ls x1 x2 x3 x4 M hk hn hZ hl hw
  refine lv_aload_n hx hb dX9_readsBranches_21 rfl (lv_at hl 0 rfl) ?_
  obtain ⟨fs0, g95, hM0, hx0, hw⟩ := hw
  refine z_get hC hZ hM0 zc8 33 (by decide) q1753 (fun _ h9 => h9) hx0 dX9_readsBranches_22 ?_
  refine lv_iload_n hx hb dX9_readsBranches_25 rfl (lv_at hl 1 rfl) ?_
  obtain ⟨b96, hr0, hw⟩ := hw
  subst hr0
  obtain ⟨n0, f0, hM0, hi0, hw⟩ := hw
  refine z_iald hC hZ hM0 hi0 dX9_readsBranches_26 ?_
  generalize f0 _ = v97 at hw ⊢
  refine lv_bipush (v := 10) hx hb dX9_readsBranches_27 (by decide) ?_
  refine lv_icmp_ne (tgt := 34) hx hb dX9_readsBranches_29 (by decide) (fun c110 => ?_) (fun c110 => ?_)
  · replace hw := hw.1 c110
    refine lv_aload_n hx hb dX9_readsBranches_34 rfl (lv_at hl 0 rfl) ?_
    obtain ⟨fs0, g98, hM0, hx0, hw⟩ := hw
    refine z_get hC hZ hM0 zc8 23 (by decide) q1743 (fun _ h9 => h9) hx0 dX9_readsBranches_35 ?_
    refine lv_istore (i := 5) (lv' := [(5, .int g98), (0, .ref o), (1, .int x1), (2, .int x2), (3, .int x3), (4, .int x4)]) hx hb dX9_readsBranches_38 hl (by decide) rfl (fun ls hl1 => ?_)
    replace hl := hl1
    clear hl1
    refine lv_aload_n hx hb dX9_readsBranches_40 rfl (lv_at hl 1 rfl) ?_
    refine lv_aload_n hx hb dX9_readsBranches_41 rfl (lv_at hl 1 rfl) ?_
    obtain ⟨fs0, g99, hM0, hx0, hw⟩ := hw
    refine z_get hC hZ hM0 zc8 31 (by decide) q1751 (fun _ h9 => h9) hx0 dX9_readsBranches_42 ?_
    refine lv_iload_n hx hb dX9_readsBranches_45 rfl (lv_at hl 2 rfl) ?_
    obtain ⟨b100, hr0, hw⟩ := hw
    subst hr0
    obtain ⟨n0, f0, hM0, hi0, hw⟩ := hw
    refine z_iald hC hZ hM0 hi0 dX9_readsBranches_46 ?_
    generalize f0 _ = v101 at hw ⊢
    obtain ⟨⟨ci0, fs0, hci0, hM0⟩, hw⟩ := hw
    obtain rfl : ci0 = 8 := List.mem_singleton.mp hci0
    refine z_callI hZ (vx_runV (As := [.int v101]) (rest := []) hC.fix (w_X9_readsKey hlt hw) (cwV 1 hts (lw_V q2009 q2011 qs41 q83 q2012) rfl rfl rfl ⟨rfl, dd_X9_readsKey⟩ ⟨(show 3 + 1 ≤ 4 + 3 * d by omega), (show 8 + (5 + 11) + (105) ≤ 132 + 77 * d by omega)⟩) (z_preV hC hZ hM0 zc8) rfl rfl hl.1 rfl (lv_room (Nat.zero_le _)) dX9_readsBranches_47 ⟨hk, hn⟩) (fun r102 M H locs hw1 hZ => ?_) (fun q M H locs ci fs E T9 N9 hw hZ hc1 hM1 hb1 => False.elim hw)
    replace hw := hw1
    clear hw1
    refine W.cs (cells' := cells) (slots' := slots) rfl rfl ?_
    refine lv_istore (i := 6) (lv' := [(6, .int r102), (5, .int g98), (0, .ref o), (1, .int x1), (2, .int x2), (3, .int x3), (4, .int x4)]) hx hb dX9_readsBranches_50 hl (by decide) rfl (fun ls hl1 => ?_)
    replace hl := hl1
    clear hl1
    refine lv_iload hx hb dX9_readsBranches_52 (lv_at hl 0 rfl) ?_
    refine lv_if_lt (tgt := 66) hx hb dX9_readsBranches_54 (by decide) (fun c109 => ?_) (fun c109 => ?_)
    · replace hw := hw.1 c109
      exact wk_X9_readsBranches_L66 hG hP _ hk hn hZ (lv_sub hl [] rfl) hw
    · replace hw := hw.2 c109
      refine lv_aload_n hx hb dX9_readsBranches_57 rfl (lv_at hl 2 rfl) ?_
      refine lv_bipush (v := 40) hx hb dX9_readsBranches_58 (by decide) ?_
      obtain ⟨⟨ci0, fs0, hci0, hM0⟩, hw⟩ := hw
      obtain rfl : ci0 = 8 := List.mem_singleton.mp hci0
      refine z_callI hZ (vx_runV (As := [.int (40 : Int32)]) (rest := []) hC.fix (w_X9_takes hlt hw) (cwV 1 hts (lw_V q1993 q1995 qs37 q83 q1996) rfl rfl rfl ⟨rfl, dd_X9_takes⟩ ⟨(show 2 + 1 ≤ 4 + 3 * d by omega), (show 8 + (2 + 11) + (84) ≤ 132 + 77 * d by omega)⟩) (z_preV hC hZ hM0 zc8) rfl rfl hl.1 rfl (lv_room (Nat.zero_le _)) dX9_readsBranches_60 ⟨hk, hn⟩) (fun r105 M H locs hw1 hZ => ?_) (fun q M H locs ci fs E T9 N9 hw hZ hc1 hM1 hb1 => False.elim hw)
      replace hw := hw1
      clear hw1
      refine W.cs (cells' := cells) (slots' := slots) rfl rfl ?_
      refine lv_if_ne (tgt := 68) hx hb dX9_readsBranches_63 (by decide) (fun c108 => ?_) (fun c108 => ?_)
      · replace hw := hw.1 c108
        refine lv_iconst (v := 0) hx hb dX9_readsBranches_68 (by decide) ?_
        refine lv_istore (i := 7) (lv' := [(7, .int (0 : Int32)), (6, .int r102), (5, .int g98), (0, .ref o), (1, .int x1), (2, .int x2), (3, .int x3), (4, .int x4)]) hx hb dX9_readsBranches_69 hl (by decide) rfl (fun ls hl1 => ?_)
        replace hl := hl1
        clear hl1
        obtain ⟨f1, hw⟩ := hw
        exact wk_X9_readsBranches_L71 hG hP k3 hk3 f1 _ _ _ _ _ _ _ _ hk hn hZ (lv_sub hl [3, 4, 5, 6, 7, 2, 1, 0] rfl) hw
      · replace hw := hw.2 c108
        exact wk_X9_readsBranches_L66 hG hP _ hk hn hZ (lv_sub hl [] rfl) hw
  · replace hw := hw.2 c110
    refine lv_iconst (v := 0) hx hb dX9_readsBranches_32 (by decide) ?_
    exact z_zret hG hZ hk hn hw.1 hw.2 dX9_readsBranches_33
def wp_X9_readsBranches_L227 (D : zD) (P : (Int32 → zM → Prop) → Nat → Int32 → Int32 → zM → Prop) (post : Int32 → zM → Prop) (o : Nat) (M : zM) : Prop :=
    (zgI M o 8 23 fun g111 => (zp D M o 8 23 (.int (g111 + (1 : Int32))) fun M => (narrow .boolean (.int (1 : Int32)) = .int (1 : Int32) ∧ post (1 : Int32) M)))
set_option maxHeartbeats 4000000 in
set_option maxRecDepth 100000 in
theorem wk_X9_readsBranches_L227 {p : Program} {l : Launch} {e : Env} {s : State} {m : MethodId} {args : Array Value} {below : List Frame} {meth : Method} {c : Code} {D : zD} {P : (Int32 → zM → Prop) → Nat → Int32 → Int32 → zM → Prop} {post : Int32 → zM → Prop} {d : Nat} {o : Nat} (hG : zGx p l s m args meth c cX9_readsBranches 8 "PluralBranchesModel" D (some .boolean) "readsBranches" []) (hP : ∀ (post : Int32 → zM → Prop) (o : Nat) (a0 : Int32) (a1 : Int32) (M : zM), P post o a0 a1 M → zMet l D yX9_readsMessage (ws_ yX9_readsMessage cX9_readsMessage 4 (some .boolean)) (rm_X9_readsMessage d) 0 0 [.ref o, .int a0, .int a1] M zI post (fun _ _ => False)) : ∀ {H : Heap} {locs : List Loc} {cells slots : Nat} {ls : Array Slot} (M : zM), cells ≤ 0 → slots ≤ 0 → zS D M H locs → lv_has ls 8 [(0, .ref o)] → wp_X9_readsBranches_L227 D P post o M → W p l e (rm_X9_readsBranches d) s m args below meth c H locs cells slots (vx_MQ below (zQ D zI post) (zX D (fun _ _ => False)) args s 0 0 (zA D)) (F0 m 227 ls []) := by
  have hC := hG.1
  have hx := hC.x
  have hb := hC.b
  have hown := hC.o
  have hts := hC.ts
  have hlt := hG.2.2.2.2.2
  intro H locs cells slots ls M hk hn hZ hl hw
  refine lv_aload_n hx hb dX9_readsBranches_227 rfl (lv_at hl 0 rfl) ?_
  refine lv_dup hx hb dX9_readsBranches_228 rfl ?_
  obtain ⟨fs0, g113, hM0, hx0, hw⟩ := hw
  refine z_get hC hZ hM0 zc8 23 (by decide) q1743 (fun _ h9 => h9) hx0 dX9_readsBranches_229 ?_
  refine lv_iconst (v := 1) hx hb dX9_readsBranches_232 (by decide) ?_
  refine lv_iadd hx hb dX9_readsBranches_233 ?_
  obtain ⟨fs0, hM0, hb0, hk0, hw⟩ := hw
  refine z_put hC hZ hM0 hb0 zc8 23 (by decide) q1743 (fun _ h9 => h9) (by decide) rfl rfl hk0 dX9_readsBranches_234 (fun H locs hZ => ?_)
  generalize zu M _ _ = M at hw hZ
  refine lv_iconst (v := 1) hx hb dX9_readsBranches_237 (by decide) ?_
  exact z_zret hG hZ hk hn hw.1 hw.2 dX9_readsBranches_238
def wp_X9_readsBranches_L3 (D : zD) (P : (Int32 → zM → Prop) → Nat → Int32 → Int32 → zM → Prop) (post : Int32 → zM → Prop) (o : Nat) : Nat → Int32 → Int32 → Int32 → Int32 → zM → Prop
  | 0 => fun _ _ _ _ _ => False
  | f + 1 => fun x1 x2 x3 x4 M =>
    (zgR M o 8 33 fun g115 => ((zd g115 fun b116 => zaI M b116 0 x1 fun v117 => ((v117 = 0 → wp_X9_readsBranches_L21 D P post o (wp_X9_readsBranches_L3 D P post o f) x1 x2 x3 x4 M) ∧ (¬ v117 = 0 → ((zis M o [8] ∧ wp_X9_here D (fun r118 M => ((r118 = (125 : Int32) → ((¬ x4 = 0 → wp_X9_readsBranches_L227 D P post o M) ∧ (x4 = 0 → (zgI M o 8 23 fun g121 => ((zis M o [8] ∧ wp_X9_isWrong D (fun _ M => wp_X9_readsBranches_L227 D P post o M) o g121 M)))))) ∧ (¬ r118 = (125 : Int32) → wp_X9_readsBranches_L21 D P post o (wp_X9_readsBranches_L3 D P post o f) x1 x2 x3 x4 M))) o M)))))))
set_option maxHeartbeats 4000000 in
set_option maxRecDepth 100000 in
theorem wk_X9_readsBranches_L3 {p : Program} {l : Launch} {e : Env} {s : State} {m : MethodId} {args : Array Value} {below : List Frame} {meth : Method} {c : Code} {D : zD} {P : (Int32 → zM → Prop) → Nat → Int32 → Int32 → zM → Prop} {post : Int32 → zM → Prop} {d : Nat} {o : Nat} (hG : zGx p l s m args meth c cX9_readsBranches 8 "PluralBranchesModel" D (some .boolean) "readsBranches" []) (hP : ∀ (post : Int32 → zM → Prop) (o : Nat) (a0 : Int32) (a1 : Int32) (M : zM), P post o a0 a1 M → zMet l D yX9_readsMessage (ws_ yX9_readsMessage cX9_readsMessage 4 (some .boolean)) (rm_X9_readsMessage d) 0 0 [.ref o, .int a0, .int a1] M zI post (fun _ _ => False)) : ∀ (f : Nat), ∀ {H : Heap} {locs : List Loc} {cells slots : Nat} {ls : Array Slot} (x1 : Int32) (x2 : Int32) (x3 : Int32) (x4 : Int32) (M : zM), cells ≤ 0 → slots ≤ 0 → zS D M H locs → lv_has ls 8 [(0, .ref o), (1, .int x1), (2, .int x2), (3, .int x3), (4, .int x4)] → wp_X9_readsBranches_L3 D P post o f x1 x2 x3 x4 M → W p l e (rm_X9_readsBranches d) s m args below meth c H locs cells slots (vx_MQ below (zQ D zI post) (zX D (fun _ _ => False)) args s 0 0 (zA D)) (F0 m 3 ls []) := by
  have hC := hG.1
  have hx := hC.x
  have hb := hC.b
  have hown := hC.o
  have hts := hC.ts
  have hlt := hG.2.2.2.2.2
  intro f
  induction f with
  | zero =>
    intro H locs cells slots ls x1 x2 x3 x4 M hk hn hZ hl hw
    exact absurd hw (fun h => h)
  | succ f ih =>
    intro H locs cells slots ls x1 x2 x3 x4 M hk hn hZ hl hw
    refine lv_aload_n hx hb dX9_readsBranches_3 rfl (lv_at hl 0 rfl) ?_
    obtain ⟨fs0, g128, hM0, hx0, hw⟩ := hw
    refine z_get hC hZ hM0 zc8 33 (by decide) q1753 (fun _ h9 => h9) hx0 dX9_readsBranches_4 ?_
    refine lv_iload_n hx hb dX9_readsBranches_7 rfl (lv_at hl 1 rfl) ?_
    obtain ⟨b129, hr0, hw⟩ := hw
    subst hr0
    obtain ⟨n0, f0, hM0, hi0, hw⟩ := hw
    refine z_iald hC hZ hM0 hi0 dX9_readsBranches_8 ?_
    generalize f0 _ = v130 at hw ⊢
    refine lv_if_eq (tgt := 21) hx hb dX9_readsBranches_9 (by decide) (fun c140 => ?_) (fun c140 => ?_)
    · replace hw := hw.1 c140
      exact wk_X9_readsBranches_L21 hG hP _ (fun {_ _ _ _ _} _z0 _z1 _z2 _z3 _z4 h1 h2 h3 h4 h5 => ih _z0 _z1 _z2 _z3 _z4 h1 h2 h3 h4 h5) _ _ _ _ _ hk hn hZ (lv_sub hl [0, 1, 2, 3, 4] rfl) hw
    · replace hw := hw.2 c140
      refine lv_aload_n hx hb dX9_readsBranches_12 rfl (lv_at hl 0 rfl) ?_
      obtain ⟨⟨ci0, fs0, hci0, hM0⟩, hw⟩ := hw
      obtain rfl : ci0 = 8 := List.mem_singleton.mp hci0
      refine z_callI hZ (vx_runV (As := []) (rest := []) hC.fix (w_X9_here hlt hw) (cwV 0 hts (lw_V q1970 q1972 qs33 q83 q1973) rfl rfl rfl ⟨rfl, dd_X9_here⟩ ⟨(show 1 + 1 ≤ 4 + 3 * d by omega), (show 8 + (1 + 11) + (64) ≤ 132 + 77 * d by omega)⟩) (z_preV hC hZ hM0 zc8) rfl rfl hl.1 rfl (lv_room (Nat.zero_le _)) dX9_readsBranches_13 ⟨hk, hn⟩) (fun r131 M H locs hw1 hZ => ?_) (fun q M H locs ci fs E T9 N9 hw hZ hc1 hM1 hb1 => False.elim hw)
      replace hw := hw1
      clear hw1
      refine W.cs (cells' := cells) (slots' := slots) rfl rfl ?_
      refine lv_bipush (v := 125) hx hb dX9_readsBranches_16 (by decide) ?_
      refine lv_icmp_eq (tgt := 214) hx hb dX9_readsBranches_18 (by decide) (fun c139 => ?_) (fun c139 => ?_)
      · replace hw := hw.1 c139
        refine lv_iload hx hb dX9_readsBranches_214 (lv_at hl 4 rfl) ?_
        refine lv_if_ne (tgt := 227) hx hb dX9_readsBranches_216 (by decide) (fun c138 => ?_) (fun c138 => ?_)
        · replace hw := hw.1 c138
          exact wk_X9_readsBranches_L227 hG hP _ hk hn hZ (lv_sub hl [0] rfl) hw
        · replace hw := hw.2 c138
          refine lv_aload_n hx hb dX9_readsBranches_219 rfl (lv_at hl 0 rfl) ?_
          refine lv_aload_n hx hb dX9_readsBranches_220 rfl (lv_at hl 0 rfl) ?_
          obtain ⟨fs0, g134, hM0, hx0, hw⟩ := hw
          refine z_get hC hZ hM0 zc8 23 (by decide) q1743 (fun _ h9 => h9) hx0 dX9_readsBranches_221 ?_
          obtain ⟨⟨ci0, fs0, hci0, hM0⟩, hw⟩ := hw
          obtain rfl : ci0 = 8 := List.mem_singleton.mp hci0
          refine z_callU hZ (vx_runV (As := [.int g134]) (rest := []) hC.fix (w_X9_isWrong hlt hw) (cwV 1 hts (lw_V q1989 q1991 qs36 q83 q1992) rfl rfl rfl ⟨rfl, dd_X9_isWrong⟩ ⟨(show 1 + 1 ≤ 4 + 3 * d by omega), (show 8 + (2 + 11) + (64) ≤ 132 + 77 * d by omega)⟩) (z_preV hC hZ hM0 zc8) rfl rfl hl.1 rfl (lv_room (Nat.zero_le _)) dX9_readsBranches_224 ⟨hk, hn⟩) (fun r135 M H locs hw1 hZ => ?_) (fun q M H locs ci fs E T9 N9 hw hZ hc1 hM1 hb1 => False.elim hw)
          replace hw := hw1
          clear hw1
          refine W.cs (cells' := cells) (slots' := slots) rfl rfl ?_
          exact wk_X9_readsBranches_L227 hG hP _ hk hn hZ (lv_sub hl [0] rfl) hw
      · replace hw := hw.2 c139
        exact wk_X9_readsBranches_L21 hG hP _ (fun {_ _ _ _ _} _z0 _z1 _z2 _z3 _z4 h1 h2 h3 h4 h5 => ih _z0 _z1 _z2 _z3 _z4 h1 h2 h3 h4 h5) _ _ _ _ _ hk hn hZ (lv_sub hl [0, 1, 2, 3, 4] rfl) hw
def wp_X9_readsBranches (D : zD) (P : (Int32 → zM → Prop) → Nat → Int32 → Int32 → zM → Prop) (post : Int32 → zM → Prop) (o : Nat) (a0 : Int32) (a1 : Int32) (a2 : Int32) (M : zM) : Prop :=
    (∃ f, wp_X9_readsBranches_L3 D P post o f a0 a1 a2 (0 : Int32) M)
set_option maxHeartbeats 4000000 in
set_option maxRecDepth 100000 in
theorem w_X9_readsBranches {l : Launch} {D : zD} {post : Int32 → zM → Prop} {P : (Int32 → zM → Prop) → Nat → Int32 → Int32 → zM → Prop} {d : Nat} (hlt : l.stackTraces = false) (hP : ∀ (post : Int32 → zM → Prop) (o : Nat) (a0 : Int32) (a1 : Int32) (M : zM), P post o a0 a1 M → zMet l D yX9_readsMessage (ws_ yX9_readsMessage cX9_readsMessage 4 (some .boolean)) (rm_X9_readsMessage d) 0 0 [.ref o, .int a0, .int a1] M zI post (fun _ _ => False)) {o : Nat} {a0 : Int32} {a1 : Int32} {a2 : Int32} {M : zM} (hw : wp_X9_readsBranches D P post o a0 a1 a2 M) : zMet l D yX9_readsBranches (ws_ yX9_readsBranches cX9_readsBranches 8 (some .boolean)) (rm_X9_readsBranches d) 0 0 [.ref o, .int a0, .int a1, .int a2] M zI post (fun _ _ => False) := by
  unfold wp_X9_readsBranches at hw
  have hlv : lv_args 0 [.ref o, .int a0, .int a1, .int a2] = [(0, .ref o), (1, .int a0), (2, .int a1), (3, .int a2)] := (zargs1 rfl (zargs1 rfl (zargs1 rfl (zargs1 rfl rfl))))
  refine z_ofW hlt (by decide) (Nat.le_trans (zsl1 rfl (zsl1 rfl (zsl1 rfl (zsl1 rfl (Nat.le_refl 0 : (lg_sl []).length ≤ 0))))) (Nat.le_of_ble_eq_true rfl)) hlv ?_
  intro p e s m args below meth c ls hG hZ hl
  have hC := hG.1
  have hx := hC.x
  have hb := hC.b
  have hown := hC.o
  have hts := hC.ts
  have hlt := hG.2.2.2.2.2
  obtain ⟨cells, hce⟩ : ∃ z : Nat, z = 0 := ⟨0, rfl⟩
  obtain ⟨slots, hsl⟩ : ∃ z : Nat, z = 0 := ⟨0, rfl⟩
  refine W.cs (cells' := cells) (slots' := slots) hce.symm hsl.symm ?_
  have hk : cells ≤ 0 := Nat.le_of_eq hce
  have hn : slots ≤ 0 := Nat.le_of_eq hsl
  clear hce hsl
  refine lv_iconst (v := 0) hx hb dX9_readsBranches_0 (by decide) ?_
  refine lv_istore (i := 4) (lv' := [(4, .int (0 : Int32)), (0, .ref o), (1, .int a0), (2, .int a1), (3, .int a2)]) hx hb dX9_readsBranches_1 hl (by decide) rfl (fun ls hl1 => ?_)
  replace hl := hl1
  clear hl1
  obtain ⟨f1, hw⟩ := hw
  exact wk_X9_readsBranches_L3 hG hP f1 _ _ _ _ _ hk hn hZ (lv_sub hl [1, 2, 3, 4, 0] rfl) hw
def wp_X9_readsBrace_L202 (D : zD) (P : (Int32 → zM → Prop) → Nat → Int32 → Int32 → zM → Prop) (post : Int32 → zM → Prop) (o : Nat) (M : zM) : Prop :=
    (narrow .boolean (.int (0 : Int32)) = .int (0 : Int32) ∧ post (0 : Int32) M)
set_option maxHeartbeats 4000000 in
set_option maxRecDepth 100000 in
theorem wk_X9_readsBrace_L202 {p : Program} {l : Launch} {e : Env} {s : State} {m : MethodId} {args : Array Value} {below : List Frame} {meth : Method} {c : Code} {D : zD} {P : (Int32 → zM → Prop) → Nat → Int32 → Int32 → zM → Prop} {post : Int32 → zM → Prop} {d : Nat} {o : Nat} (hG : zGx p l s m args meth c cX9_readsBrace 8 "PluralBranchesModel" D (some .boolean) "readsBrace" []) (hP : ∀ (post : Int32 → zM → Prop) (o : Nat) (a0 : Int32) (a1 : Int32) (M : zM), P post o a0 a1 M → zMet l D yX9_readsMessage (ws_ yX9_readsMessage cX9_readsMessage 4 (some .boolean)) (rm_X9_readsMessage d) 0 0 [.ref o, .int a0, .int a1] M zI post (fun _ _ => False)) : ∀ {H : Heap} {locs : List Loc} {cells slots : Nat} {ls : Array Slot} (M : zM), cells ≤ 0 → slots ≤ 0 → zS D M H locs → lv_has ls 8 [] → wp_X9_readsBrace_L202 D P post o M → W p l e (rm_X9_readsBrace d) s m args below meth c H locs cells slots (vx_MQ below (zQ D zI post) (zX D (fun _ _ => False)) args s 0 0 (zA D)) (F0 m 202 ls []) := by
  have hC := hG.1
  have hx := hC.x
  have hb := hC.b
  have hown := hC.o
  have hts := hC.ts
  have hlt := hG.2.2.2.2.2
  intro H locs cells slots ls M hk hn hZ hl hw
  refine lv_iconst (v := 0) hx hb dX9_readsBrace_202 (by decide) ?_
  exact z_zret hG hZ hk hn hw.1 hw.2 dX9_readsBrace_203
def wp_X9_readsBrace_L348 (D : zD) (P : (Int32 → zM → Prop) → Nat → Int32 → Int32 → zM → Prop) (post : Int32 → zM → Prop) (o : Nat) (y0 : Option Nat) (y1 : Int32) (y2 : Int32) (y3 : Int32) (M : zM) : Prop :=
    ((zd y0 fun b1 => (zis M b1 [8] ∧ wp_X9_readsBranches D P (fun r2 M => (narrow .boolean (.int r2) = .int r2 ∧ post r2 M)) b1 y1 y2 y3 M)))
set_option maxHeartbeats 4000000 in
set_option maxRecDepth 100000 in
theorem wk_X9_readsBrace_L348 {p : Program} {l : Launch} {e : Env} {s : State} {m : MethodId} {args : Array Value} {below : List Frame} {meth : Method} {c : Code} {D : zD} {P : (Int32 → zM → Prop) → Nat → Int32 → Int32 → zM → Prop} {post : Int32 → zM → Prop} {d : Nat} {o : Nat} (hG : zGx p l s m args meth c cX9_readsBrace 8 "PluralBranchesModel" D (some .boolean) "readsBrace" []) (hP : ∀ (post : Int32 → zM → Prop) (o : Nat) (a0 : Int32) (a1 : Int32) (M : zM), P post o a0 a1 M → zMet l D yX9_readsMessage (ws_ yX9_readsMessage cX9_readsMessage 4 (some .boolean)) (rm_X9_readsMessage d) 0 0 [.ref o, .int a0, .int a1] M zI post (fun _ _ => False)) : ∀ {H : Heap} {locs : List Loc} {cells slots : Nat} {ls : Array Slot} (y0 : Option Nat) (y1 : Int32) (y2 : Int32) (y3 : Int32) (M : zM), cells ≤ 0 → slots ≤ 0 → zS D M H locs → lv_has ls 8 [] → wp_X9_readsBrace_L348 D P post o y0 y1 y2 y3 M → W p l e (rm_X9_readsBrace d) s m args below meth c H locs cells slots (vx_MQ below (zQ D zI post) (zX D (fun _ _ => False)) args s 0 0 (zA D)) (F0 m 348 ls [.int y3, .int y2, .int y1, va_rf y0]) := by
  have hC := hG.1
  have hx := hC.x
  have hb := hC.b
  have hown := hC.o
  have hts := hC.ts
  have hlt := hG.2.2.2.2.2
  intro H locs cells slots ls y0 y1 y2 y3 M hk hn hZ hl hw
  obtain ⟨b5, hr0, hw⟩ := hw
  subst hr0
  obtain ⟨⟨ci0, fs0, hci0, hM0⟩, hw⟩ := hw
  obtain rfl : ci0 = 8 := List.mem_singleton.mp hci0
  refine z_callI hZ (vx_runV (As := [.int y1, .int y2, .int y3]) (rest := []) hC.fix (w_X9_readsBranches hlt hP hw) (cwV 3 hts (lw_V q2005 q2007 qs40 q83 q2008) rfl rfl rfl ⟨rfl, dd_X9_readsBranches⟩ ⟨(show 4 + 3 * d + 1 ≤ 5 + 3 * d by omega), (show 8 + (8 + 11) + (132 + 77 * d) ≤ 159 + 77 * d by omega)⟩) (z_preV hC hZ hM0 zc8) rfl rfl hl.1 rfl (lv_room (Nat.zero_le _)) dX9_readsBrace_348 ⟨hk, hn⟩) (fun r6 M H locs hw1 hZ => ?_) (fun q M H locs ci fs E T9 N9 hw hZ hc1 hM1 hb1 => False.elim hw)
  replace hw := hw1
  clear hw1
  refine W.cs (cells' := cells) (slots' := slots) rfl rfl ?_
  exact z_zret hG hZ hk hn hw.1 hw.2 dX9_readsBrace_351
def wp_X9_readsBrace_L343 (D : zD) (P : (Int32 → zM → Prop) → Nat → Int32 → Int32 → zM → Prop) (post : Int32 → zM → Prop) (o : Nat) (y0 : Option Nat) (y1 : Int32) (y2 : Int32) (M : zM) : Prop :=
    wp_X9_readsBrace_L348 D P post o y0 y1 y2 (1 : Int32) M
set_option maxHeartbeats 4000000 in
set_option maxRecDepth 100000 in
theorem wk_X9_readsBrace_L343 {p : Program} {l : Launch} {e : Env} {s : State} {m : MethodId} {args : Array Value} {below : List Frame} {meth : Method} {c : Code} {D : zD} {P : (Int32 → zM → Prop) → Nat → Int32 → Int32 → zM → Prop} {post : Int32 → zM → Prop} {d : Nat} {o : Nat} (hG : zGx p l s m args meth c cX9_readsBrace 8 "PluralBranchesModel" D (some .boolean) "readsBrace" []) (hP : ∀ (post : Int32 → zM → Prop) (o : Nat) (a0 : Int32) (a1 : Int32) (M : zM), P post o a0 a1 M → zMet l D yX9_readsMessage (ws_ yX9_readsMessage cX9_readsMessage 4 (some .boolean)) (rm_X9_readsMessage d) 0 0 [.ref o, .int a0, .int a1] M zI post (fun _ _ => False)) : ∀ {H : Heap} {locs : List Loc} {cells slots : Nat} {ls : Array Slot} (y0 : Option Nat) (y1 : Int32) (y2 : Int32) (M : zM), cells ≤ 0 → slots ≤ 0 → zS D M H locs → lv_has ls 8 [] → wp_X9_readsBrace_L343 D P post o y0 y1 y2 M → W p l e (rm_X9_readsBrace d) s m args below meth c H locs cells slots (vx_MQ below (zQ D zI post) (zX D (fun _ _ => False)) args s 0 0 (zA D)) (F0 m 343 ls [.int y2, .int y1, va_rf y0]) := by
  have hC := hG.1
  have hx := hC.x
  have hb := hC.b
  have hown := hC.o
  have hts := hC.ts
  have hlt := hG.2.2.2.2.2
  intro H locs cells slots ls y0 y1 y2 M hk hn hZ hl hw
  refine lv_iconst (v := 1) hx hb dX9_readsBrace_343 (by decide) ?_
  refine lv_goto (tgt := 348) hx hb dX9_readsBrace_344 (by decide) ?_
  exact wk_X9_readsBrace_L348 hG hP _ _ _ _ _ hk hn hZ (lv_sub hl [] rfl) hw
def wp_X9_readsBrace_L301 (D : zD) (P : (Int32 → zM → Prop) → Nat → Int32 → Int32 → zM → Prop) (post : Int32 → zM → Prop) (o : Nat) (x1 : Int32) (x2 : Int32) (x3 : Int32) (x6 : Int32) (x7 : Int32) (y0 : Option Nat) (y1 : Int32) (y2 : Int32) (M : zM) : Prop :=
    ((zd y0 fun b9 => zsI D M b9 y1 y2 fun M => (zgR M o 8 32 fun g10 => ((zd g10 fun b11 => zsI D M b11 x7 x1 fun M => (zgR M o 8 33 fun g12 => ((zd g12 fun b13 => zsI D M b13 x7 (0 : Int32) fun M => (zgR M o 8 36 fun g14 => ((zd g14 fun b15 => zsI D M b15 x7 x3 fun M => ((¬ x2 = 0 → wp_X9_readsBrace_L343 D P post o (some o) x7 (x1 + (1 : Int32)) M) ∧ (x2 = 0 → ((¬ x6 = (112 : Int32) → wp_X9_readsBrace_L348 D P post o (some o) x7 (x1 + (1 : Int32)) (0 : Int32) M) ∧ (x6 = (112 : Int32) → wp_X9_readsBrace_L343 D P post o (some o) x7 (x1 + (1 : Int32)) M)))))))))))))))
set_option maxHeartbeats 4000000 in
set_option maxRecDepth 100000 in
theorem wk_X9_readsBrace_L301 {p : Program} {l : Launch} {e : Env} {s : State} {m : MethodId} {args : Array Value} {below : List Frame} {meth : Method} {c : Code} {D : zD} {P : (Int32 → zM → Prop) → Nat → Int32 → Int32 → zM → Prop} {post : Int32 → zM → Prop} {d : Nat} {o : Nat} (hG : zGx p l s m args meth c cX9_readsBrace 8 "PluralBranchesModel" D (some .boolean) "readsBrace" []) (hP : ∀ (post : Int32 → zM → Prop) (o : Nat) (a0 : Int32) (a1 : Int32) (M : zM), P post o a0 a1 M → zMet l D yX9_readsMessage (ws_ yX9_readsMessage cX9_readsMessage 4 (some .boolean)) (rm_X9_readsMessage d) 0 0 [.ref o, .int a0, .int a1] M zI post (fun _ _ => False)) : ∀ {H : Heap} {locs : List Loc} {cells slots : Nat} {ls : Array Slot} (x1 : Int32) (x2 : Int32) (x3 : Int32) (x6 : Int32) (x7 : Int32) (y0 : Option Nat) (y1 : Int32) (y2 : Int32) (M : zM), cells ≤ 0 → slots ≤ 0 → zS D M H locs → lv_has ls 8 [(0, .ref o), (1, .int x1), (2, .int x2), (3, .int x3), (6, .int x6), (7, .int x7)] → wp_X9_readsBrace_L301 D P post o x1 x2 x3 x6 x7 y0 y1 y2 M → W p l e (rm_X9_readsBrace d) s m args below meth c H locs cells slots (vx_MQ below (zQ D zI post) (zX D (fun _ _ => False)) args s 0 0 (zA D)) (F0 m 301 ls [.int y2, .int y1, va_rf y0]) := by
  have hC := hG.1
  have hx := hC.x
  have hb := hC.b
  have hown := hC.o
  have hts := hC.ts
  have hlt := hG.2.2.2.2.2
  intro H locs cells slots ls x1 x2 x3 x6 x7 y0 y1 y2 M hk hn hZ hl hw
  obtain ⟨b18, hr0, hw⟩ := hw
  subst hr0
  obtain ⟨n0, f0, hM0, hb0, hi0, hw⟩ := hw
  refine z_iast hC hZ hM0 hb0 hi0 dX9_readsBrace_301 (fun H locs hZ => ?_)
  generalize zu M _ _ = M at hw hZ
  refine lv_aload_n hx hb dX9_readsBrace_302 rfl (lv_at hl 0 rfl) ?_
  obtain ⟨fs0, g19, hM0, hx0, hw⟩ := hw
  refine z_get hC hZ hM0 zc8 32 (by decide) q1752 (fun _ h9 => h9) hx0 dX9_readsBrace_303 ?_
  refine lv_iload hx hb dX9_readsBrace_306 (lv_at hl 5 rfl) ?_
  refine lv_iload_n hx hb dX9_readsBrace_308 rfl (lv_at hl 1 rfl) ?_
  obtain ⟨b20, hr0, hw⟩ := hw
  subst hr0
  obtain ⟨n0, f0, hM0, hb0, hi0, hw⟩ := hw
  refine z_iast hC hZ hM0 hb0 hi0 dX9_readsBrace_309 (fun H locs hZ => ?_)
  generalize zu M _ _ = M at hw hZ
  refine lv_aload_n hx hb dX9_readsBrace_310 rfl (lv_at hl 0 rfl) ?_
  obtain ⟨fs0, g21, hM0, hx0, hw⟩ := hw
  refine z_get hC hZ hM0 zc8 33 (by decide) q1753 (fun _ h9 => h9) hx0 dX9_readsBrace_311 ?_
  refine lv_iload hx hb dX9_readsBrace_314 (lv_at hl 5 rfl) ?_
  refine lv_iconst (v := 0) hx hb dX9_readsBrace_316 (by decide) ?_
  obtain ⟨b22, hr0, hw⟩ := hw
  subst hr0
  obtain ⟨n0, f0, hM0, hb0, hi0, hw⟩ := hw
  refine z_iast hC hZ hM0 hb0 hi0 dX9_readsBrace_317 (fun H locs hZ => ?_)
  generalize zu M _ _ = M at hw hZ
  refine lv_aload_n hx hb dX9_readsBrace_318 rfl (lv_at hl 0 rfl) ?_
  obtain ⟨fs0, g23, hM0, hx0, hw⟩ := hw
  refine z_get hC hZ hM0 zc8 36 (by decide) q1756 (fun _ h9 => h9) hx0 dX9_readsBrace_319 ?_
  refine lv_iload hx hb dX9_readsBrace_322 (lv_at hl 5 rfl) ?_
  refine lv_iload_n hx hb dX9_readsBrace_324 rfl (lv_at hl 3 rfl) ?_
  obtain ⟨b24, hr0, hw⟩ := hw
  subst hr0
  obtain ⟨n0, f0, hM0, hb0, hi0, hw⟩ := hw
  refine z_iast hC hZ hM0 hb0 hi0 dX9_readsBrace_325 (fun H locs hZ => ?_)
  generalize zu M _ _ = M at hw hZ
  refine lv_aload_n hx hb dX9_readsBrace_326 rfl (lv_at hl 0 rfl) ?_
  refine lv_iload hx hb dX9_readsBrace_327 (lv_at hl 5 rfl) ?_
  refine lv_iload_n hx hb dX9_readsBrace_329 rfl (lv_at hl 1 rfl) ?_
  refine lv_iconst (v := 1) hx hb dX9_readsBrace_330 (by decide) ?_
  refine lv_iadd hx hb dX9_readsBrace_331 ?_
  refine lv_iload_n hx hb dX9_readsBrace_332 rfl (lv_at hl 2 rfl) ?_
  refine lv_if_ne (tgt := 343) hx hb dX9_readsBrace_333 (by decide) (fun c26 => ?_) (fun c26 => ?_)
  · replace hw := hw.1 c26
    exact wk_X9_readsBrace_L343 hG hP _ _ _ _ hk hn hZ (lv_sub hl [] rfl) hw
  · replace hw := hw.2 c26
    refine lv_iload hx hb dX9_readsBrace_336 (lv_at hl 4 rfl) ?_
    refine lv_bipush (v := 112) hx hb dX9_readsBrace_338 (by decide) ?_
    refine lv_icmp_ne (tgt := 347) hx hb dX9_readsBrace_340 (by decide) (fun c25 => ?_) (fun c25 => ?_)
    · replace hw := hw.1 c25
      refine lv_iconst (v := 0) hx hb dX9_readsBrace_347 (by decide) ?_
      exact wk_X9_readsBrace_L348 hG hP _ _ _ _ _ hk hn hZ (lv_sub hl [] rfl) hw
    · replace hw := hw.2 c25
      exact wk_X9_readsBrace_L343 hG hP _ _ _ _ hk hn hZ (lv_sub hl [] rfl) hw
def wp_X9_readsBrace_L271 (D : zD) (P : (Int32 → zM → Prop) → Nat → Int32 → Int32 → zM → Prop) (post : Int32 → zM → Prop) (o : Nat) (x1 : Int32) (x2 : Int32) (x3 : Int32) (x4 : Int32) (x6 : Int32) (x7 : Int32) (y0 : Option Nat) (y1 : Int32) (M : zM) : Prop :=
    ((zd y0 fun b27 => zp D M b27 8 26 (.int y1) fun M => (zgR M o 8 30 fun g28 => ((zd g28 fun b29 => zsI D M b29 x7 x4 fun M => (zgR M o 8 31 fun g30 => ((¬ x6 = (112 : Int32) → wp_X9_readsBrace_L301 D P post o x1 x2 x3 x6 x7 g30 x7 (2 : Int32) M) ∧ (x6 = (112 : Int32) → wp_X9_readsBrace_L301 D P post o x1 x2 x3 x6 x7 g30 x7 (1 : Int32) M))))))))
set_option maxHeartbeats 4000000 in
set_option maxRecDepth 100000 in
theorem wk_X9_readsBrace_L271 {p : Program} {l : Launch} {e : Env} {s : State} {m : MethodId} {args : Array Value} {below : List Frame} {meth : Method} {c : Code} {D : zD} {P : (Int32 → zM → Prop) → Nat → Int32 → Int32 → zM → Prop} {post : Int32 → zM → Prop} {d : Nat} {o : Nat} (hG : zGx p l s m args meth c cX9_readsBrace 8 "PluralBranchesModel" D (some .boolean) "readsBrace" []) (hP : ∀ (post : Int32 → zM → Prop) (o : Nat) (a0 : Int32) (a1 : Int32) (M : zM), P post o a0 a1 M → zMet l D yX9_readsMessage (ws_ yX9_readsMessage cX9_readsMessage 4 (some .boolean)) (rm_X9_readsMessage d) 0 0 [.ref o, .int a0, .int a1] M zI post (fun _ _ => False)) : ∀ {H : Heap} {locs : List Loc} {cells slots : Nat} {ls : Array Slot} (x1 : Int32) (x2 : Int32) (x3 : Int32) (x4 : Int32) (x6 : Int32) (x7 : Int32) (y0 : Option Nat) (y1 : Int32) (M : zM), cells ≤ 0 → slots ≤ 0 → zS D M H locs → lv_has ls 8 [(0, .ref o), (1, .int x1), (2, .int x2), (3, .int x3), (4, .int x4), (6, .int x6), (7, .int x7)] → wp_X9_readsBrace_L271 D P post o x1 x2 x3 x4 x6 x7 y0 y1 M → W p l e (rm_X9_readsBrace d) s m args below meth c H locs cells slots (vx_MQ below (zQ D zI post) (zX D (fun _ _ => False)) args s 0 0 (zA D)) (F0 m 271 ls [.int y1, va_rf y0]) := by
  have hC := hG.1
  have hx := hC.x
  have hb := hC.b
  have hown := hC.o
  have hts := hC.ts
  have hlt := hG.2.2.2.2.2
  intro H locs cells slots ls x1 x2 x3 x4 x6 x7 y0 y1 M hk hn hZ hl hw
  obtain ⟨b33, hr0, hw⟩ := hw
  subst hr0
  obtain ⟨fs0, hM0, hb0, hk0, hw⟩ := hw
  refine z_put hC hZ hM0 hb0 zc8 26 (by decide) q1746 (fun _ h9 => h9) (by decide) rfl rfl hk0 dX9_readsBrace_271 (fun H locs hZ => ?_)
  generalize zu M _ _ = M at hw hZ
  refine lv_aload_n hx hb dX9_readsBrace_274 rfl (lv_at hl 0 rfl) ?_
  obtain ⟨fs0, g34, hM0, hx0, hw⟩ := hw
  refine z_get hC hZ hM0 zc8 30 (by decide) q1750 (fun _ h9 => h9) hx0 dX9_readsBrace_275 ?_
  refine lv_iload hx hb dX9_readsBrace_278 (lv_at hl 6 rfl) ?_
  refine lv_iload hx hb dX9_readsBrace_280 (lv_at hl 4 rfl) ?_
  obtain ⟨b35, hr0, hw⟩ := hw
  subst hr0
  obtain ⟨n0, f0, hM0, hb0, hi0, hw⟩ := hw
  refine z_iast hC hZ hM0 hb0 hi0 dX9_readsBrace_282 (fun H locs hZ => ?_)
  generalize zu M _ _ = M at hw hZ
  refine lv_aload_n hx hb dX9_readsBrace_283 rfl (lv_at hl 0 rfl) ?_
  obtain ⟨fs0, g36, hM0, hx0, hw⟩ := hw
  refine z_get hC hZ hM0 zc8 31 (by decide) q1751 (fun _ h9 => h9) hx0 dX9_readsBrace_284 ?_
  refine lv_iload hx hb dX9_readsBrace_287 (lv_at hl 6 rfl) ?_
  refine lv_iload hx hb dX9_readsBrace_289 (lv_at hl 5 rfl) ?_
  refine lv_bipush (v := 112) hx hb dX9_readsBrace_291 (by decide) ?_
  refine lv_icmp_ne (tgt := 300) hx hb dX9_readsBrace_293 (by decide) (fun c37 => ?_) (fun c37 => ?_)
  · replace hw := hw.1 c37
    refine lv_iconst (v := 2) hx hb dX9_readsBrace_300 (by decide) ?_
    exact wk_X9_readsBrace_L301 hG hP _ _ _ _ _ _ _ _ _ hk hn hZ (lv_sub hl [0, 1, 2, 3, 5, 6] rfl) hw
  · replace hw := hw.2 c37
    refine lv_iconst (v := 1) hx hb dX9_readsBrace_296 (by decide) ?_
    refine lv_goto (tgt := 301) hx hb dX9_readsBrace_297 (by decide) ?_
    exact wk_X9_readsBrace_L301 hG hP _ _ _ _ _ _ _ _ _ hk hn hZ (lv_sub hl [0, 1, 2, 3, 5, 6] rfl) hw
def wp_X9_readsBrace_L221 (D : zD) (P : (Int32 → zM → Prop) → Nat → Int32 → Int32 → zM → Prop) (post : Int32 → zM → Prop) (o : Nat) (x1 : Int32) (x2 : Int32) (x3 : Int32) (x4 : Int32) (x6 : Int32) (y0 : Option Nat) (y1 : Int32) (y2 : Int32) (y3 : Int32) (M : zM) : Prop :=
    ((zd y0 fun b39 => (zis M b39 [8] ∧ wp_X9_uses D (fun _ M => (zgI M o 8 23 fun g43 => (zp D M o 8 23 (.int (g43 + (1 : Int32))) fun M => (zgI M o 8 25 fun g44 => (zgI M o 8 25 fun g45 => (zp D M o 8 25 (.int (g45 + (1 : Int32))) fun M => (zgI M o 8 26 fun g46 => (((x1 + (1 : Int32)) ≤ g46 → (zgI M o 8 26 fun g47 => wp_X9_readsBrace_L271 D P post o x1 x2 x3 x4 x6 g44 (some o) g47 M)) ∧ (¬ (x1 + (1 : Int32)) ≤ g46 → wp_X9_readsBrace_L271 D P post o x1 x2 x3 x4 x6 g44 (some o) (x1 + (1 : Int32)) M))))))))) b39 y1 y2 y3 M)))
set_option maxHeartbeats 4000000 in
set_option maxRecDepth 100000 in
theorem wk_X9_readsBrace_L221 {p : Program} {l : Launch} {e : Env} {s : State} {m : MethodId} {args : Array Value} {below : List Frame} {meth : Method} {c : Code} {D : zD} {P : (Int32 → zM → Prop) → Nat → Int32 → Int32 → zM → Prop} {post : Int32 → zM → Prop} {d : Nat} {o : Nat} (hG : zGx p l s m args meth c cX9_readsBrace 8 "PluralBranchesModel" D (some .boolean) "readsBrace" []) (hP : ∀ (post : Int32 → zM → Prop) (o : Nat) (a0 : Int32) (a1 : Int32) (M : zM), P post o a0 a1 M → zMet l D yX9_readsMessage (ws_ yX9_readsMessage cX9_readsMessage 4 (some .boolean)) (rm_X9_readsMessage d) 0 0 [.ref o, .int a0, .int a1] M zI post (fun _ _ => False)) : ∀ {H : Heap} {locs : List Loc} {cells slots : Nat} {ls : Array Slot} (x1 : Int32) (x2 : Int32) (x3 : Int32) (x4 : Int32) (x6 : Int32) (y0 : Option Nat) (y1 : Int32) (y2 : Int32) (y3 : Int32) (M : zM), cells ≤ 0 → slots ≤ 0 → zS D M H locs → lv_has ls 8 [(0, .ref o), (1, .int x1), (2, .int x2), (3, .int x3), (4, .int x4), (6, .int x6)] → wp_X9_readsBrace_L221 D P post o x1 x2 x3 x4 x6 y0 y1 y2 y3 M → W p l e (rm_X9_readsBrace d) s m args below meth c H locs cells slots (vx_MQ below (zQ D zI post) (zX D (fun _ _ => False)) args s 0 0 (zA D)) (F0 m 221 ls [.int y3, .int y2, .int y1, va_rf y0]) := by
  have hC := hG.1
  have hx := hC.x
  have hb := hC.b
  have hown := hC.o
  have hts := hC.ts
  have hlt := hG.2.2.2.2.2
  intro H locs cells slots ls x1 x2 x3 x4 x6 y0 y1 y2 y3 M hk hn hZ hl hw
  obtain ⟨b51, hr0, hw⟩ := hw
  subst hr0
  obtain ⟨⟨ci0, fs0, hci0, hM0⟩, hw⟩ := hw
  obtain rfl : ci0 = 8 := List.mem_singleton.mp hci0
  refine z_callU hZ (vx_runV (As := [.int y1, .int y2, .int y3]) (rest := []) hC.fix (w_X9_uses hlt hw) (cwV 3 hts (lw_V q1985 q1987 qs35 q83 q1988) rfl rfl rfl ⟨rfl, dd_X9_uses⟩ ⟨(show 2 + 1 ≤ 5 + 3 * d by omega), (show 8 + (4 + 11) + (85) ≤ 159 + 77 * d by omega)⟩) (z_preV hC hZ hM0 zc8) rfl rfl hl.1 rfl (lv_room (Nat.zero_le _)) dX9_readsBrace_221 ⟨hk, hn⟩) (fun r52 M H locs hw1 hZ => ?_) (fun q M H locs ci fs E T9 N9 hw hZ hc1 hM1 hb1 => False.elim hw)
  replace hw := hw1
  clear hw1
  refine W.cs (cells' := cells) (slots' := slots) rfl rfl ?_
  refine lv_aload_n hx hb dX9_readsBrace_224 rfl (lv_at hl 0 rfl) ?_
  refine lv_dup hx hb dX9_readsBrace_225 rfl ?_
  obtain ⟨fs0, g55, hM0, hx0, hw⟩ := hw
  refine z_get hC hZ hM0 zc8 23 (by decide) q1743 (fun _ h9 => h9) hx0 dX9_readsBrace_226 ?_
  refine lv_iconst (v := 1) hx hb dX9_readsBrace_229 (by decide) ?_
  refine lv_iadd hx hb dX9_readsBrace_230 ?_
  obtain ⟨fs0, hM0, hb0, hk0, hw⟩ := hw
  refine z_put hC hZ hM0 hb0 zc8 23 (by decide) q1743 (fun _ h9 => h9) (by decide) rfl rfl hk0 dX9_readsBrace_231 (fun H locs hZ => ?_)
  generalize zu M _ _ = M at hw hZ
  refine lv_aload_n hx hb dX9_readsBrace_234 rfl (lv_at hl 0 rfl) ?_
  obtain ⟨fs0, g56, hM0, hx0, hw⟩ := hw
  refine z_get hC hZ hM0 zc8 25 (by decide) q1745 (fun _ h9 => h9) hx0 dX9_readsBrace_235 ?_
  refine lv_istore (i := 7) (lv' := [(7, .int g56), (0, .ref o), (1, .int x1), (2, .int x2), (3, .int x3), (4, .int x4), (6, .int x6)]) hx hb dX9_readsBrace_238 hl (by decide) rfl (fun ls hl1 => ?_)
  replace hl := hl1
  clear hl1
  refine lv_aload_n hx hb dX9_readsBrace_240 rfl (lv_at hl 1 rfl) ?_
  refine lv_dup hx hb dX9_readsBrace_241 rfl ?_
  obtain ⟨fs0, g57, hM0, hx0, hw⟩ := hw
  refine z_get hC hZ hM0 zc8 25 (by decide) q1745 (fun _ h9 => h9) hx0 dX9_readsBrace_242 ?_
  refine lv_iconst (v := 1) hx hb dX9_readsBrace_245 (by decide) ?_
  refine lv_iadd hx hb dX9_readsBrace_246 ?_
  obtain ⟨fs0, hM0, hb0, hk0, hw⟩ := hw
  refine z_put hC hZ hM0 hb0 zc8 25 (by decide) q1745 (fun _ h9 => h9) (by decide) rfl rfl hk0 dX9_readsBrace_247 (fun H locs hZ => ?_)
  generalize zu M _ _ = M at hw hZ
  refine lv_aload_n hx hb dX9_readsBrace_250 rfl (lv_at hl 1 rfl) ?_
  refine lv_iload_n hx hb dX9_readsBrace_251 rfl (lv_at hl 2 rfl) ?_
  refine lv_iconst (v := 1) hx hb dX9_readsBrace_252 (by decide) ?_
  refine lv_iadd hx hb dX9_readsBrace_253 ?_
  refine lv_aload_n hx hb dX9_readsBrace_254 rfl (lv_at hl 1 rfl) ?_
  obtain ⟨fs0, g58, hM0, hx0, hw⟩ := hw
  refine z_get hC hZ hM0 zc8 26 (by decide) q1746 (fun _ h9 => h9) hx0 dX9_readsBrace_255 ?_
  refine lv_icmp_le (tgt := 267) hx hb dX9_readsBrace_258 (by decide) (fun c60 => ?_) (fun c60 => ?_)
  · replace hw := hw.1 c60
    refine lv_aload_n hx hb dX9_readsBrace_267 rfl (lv_at hl 1 rfl) ?_
    obtain ⟨fs0, g59, hM0, hx0, hw⟩ := hw
    refine z_get hC hZ hM0 zc8 26 (by decide) q1746 (fun _ h9 => h9) hx0 dX9_readsBrace_268 ?_
    exact wk_X9_readsBrace_L271 hG hP _ _ _ _ _ _ _ _ _ hk hn hZ (lv_sub hl [1, 2, 3, 4, 5, 6, 0] rfl) hw
  · replace hw := hw.2 c60
    refine lv_iload_n hx hb dX9_readsBrace_261 rfl (lv_at hl 2 rfl) ?_
    refine lv_iconst (v := 1) hx hb dX9_readsBrace_262 (by decide) ?_
    refine lv_iadd hx hb dX9_readsBrace_263 ?_
    refine lv_goto (tgt := 271) hx hb dX9_readsBrace_264 (by decide) ?_
    exact wk_X9_readsBrace_L271 hG hP _ _ _ _ _ _ _ _ _ hk hn hZ (lv_sub hl [1, 2, 3, 4, 5, 6, 0] rfl) hw
def wp_X9_readsBrace_L188 (D : zD) (P : (Int32 → zM → Prop) → Nat → Int32 → Int32 → zM → Prop) (post : Int32 → zM → Prop) (o : Nat) (x1 : Int32) (x2 : Int32) (x3 : Int32) (x4 : Int32) (x5 : Int32) (x6 : Int32) (M : zM) : Prop :=
    ((x1 = (3 : Int32) → wp_X9_readsBrace_L202 D P post o M) ∧ (¬ x1 = (3 : Int32) → (zgI M o 8 25 fun g63 => ((¬ g63 = (8 : Int32) → ((¬ x6 = (112 : Int32) → wp_X9_readsBrace_L221 D P post o x1 x2 x3 x4 x6 (some o) x4 x5 (2 : Int32) M) ∧ (x6 = (112 : Int32) → wp_X9_readsBrace_L221 D P post o x1 x2 x3 x4 x6 (some o) x4 x5 (1 : Int32) M))) ∧ (g63 = (8 : Int32) → wp_X9_readsBrace_L202 D P post o M)))))
set_option maxHeartbeats 4000000 in
set_option maxRecDepth 100000 in
theorem wk_X9_readsBrace_L188 {p : Program} {l : Launch} {e : Env} {s : State} {m : MethodId} {args : Array Value} {below : List Frame} {meth : Method} {c : Code} {D : zD} {P : (Int32 → zM → Prop) → Nat → Int32 → Int32 → zM → Prop} {post : Int32 → zM → Prop} {d : Nat} {o : Nat} (hG : zGx p l s m args meth c cX9_readsBrace 8 "PluralBranchesModel" D (some .boolean) "readsBrace" []) (hP : ∀ (post : Int32 → zM → Prop) (o : Nat) (a0 : Int32) (a1 : Int32) (M : zM), P post o a0 a1 M → zMet l D yX9_readsMessage (ws_ yX9_readsMessage cX9_readsMessage 4 (some .boolean)) (rm_X9_readsMessage d) 0 0 [.ref o, .int a0, .int a1] M zI post (fun _ _ => False)) : ∀ {H : Heap} {locs : List Loc} {cells slots : Nat} {ls : Array Slot} (x1 : Int32) (x2 : Int32) (x3 : Int32) (x4 : Int32) (x5 : Int32) (x6 : Int32) (M : zM), cells ≤ 0 → slots ≤ 0 → zS D M H locs → lv_has ls 8 [(0, .ref o), (1, .int x1), (2, .int x2), (3, .int x3), (4, .int x4), (5, .int x5), (6, .int x6)] → wp_X9_readsBrace_L188 D P post o x1 x2 x3 x4 x5 x6 M → W p l e (rm_X9_readsBrace d) s m args below meth c H locs cells slots (vx_MQ below (zQ D zI post) (zX D (fun _ _ => False)) args s 0 0 (zA D)) (F0 m 188 ls []) := by
  have hC := hG.1
  have hx := hC.x
  have hb := hC.b
  have hown := hC.o
  have hts := hC.ts
  have hlt := hG.2.2.2.2.2
  intro H locs cells slots ls x1 x2 x3 x4 x5 x6 M hk hn hZ hl hw
  refine lv_iload_n hx hb dX9_readsBrace_188 rfl (lv_at hl 1 rfl) ?_
  refine lv_iconst (v := 3) hx hb dX9_readsBrace_189 (by decide) ?_
  refine lv_icmp_eq (tgt := 202) hx hb dX9_readsBrace_190 (by decide) (fun c70 => ?_) (fun c70 => ?_)
  · replace hw := hw.1 c70
    exact wk_X9_readsBrace_L202 hG hP _ hk hn hZ (lv_sub hl [] rfl) hw
  · replace hw := hw.2 c70
    refine lv_aload_n hx hb dX9_readsBrace_193 rfl (lv_at hl 0 rfl) ?_
    obtain ⟨fs0, g67, hM0, hx0, hw⟩ := hw
    refine z_get hC hZ hM0 zc8 25 (by decide) q1745 (fun _ h9 => h9) hx0 dX9_readsBrace_194 ?_
    refine lv_bipush (v := 8) hx hb dX9_readsBrace_197 (by decide) ?_
    refine lv_icmp_ne (tgt := 204) hx hb dX9_readsBrace_199 (by decide) (fun c69 => ?_) (fun c69 => ?_)
    · replace hw := hw.1 c69
      refine lv_aload_n hx hb dX9_readsBrace_204 rfl (lv_at hl 0 rfl) ?_
      refine lv_iload hx hb dX9_readsBrace_205 (lv_at hl 4 rfl) ?_
      refine lv_iload hx hb dX9_readsBrace_207 (lv_at hl 5 rfl) ?_
      refine lv_iload hx hb dX9_readsBrace_209 (lv_at hl 6 rfl) ?_
      refine lv_bipush (v := 112) hx hb dX9_readsBrace_211 (by decide) ?_
      refine lv_icmp_ne (tgt := 220) hx hb dX9_readsBrace_213 (by decide) (fun c68 => ?_) (fun c68 => ?_)
      · replace hw := hw.1 c68
        refine lv_iconst (v := 2) hx hb dX9_readsBrace_220 (by decide) ?_
        exact wk_X9_readsBrace_L221 hG hP _ _ _ _ _ _ _ _ _ _ hk hn hZ (lv_sub hl [0, 1, 2, 3, 4, 6] rfl) hw
      · replace hw := hw.2 c68
        refine lv_iconst (v := 1) hx hb dX9_readsBrace_216 (by decide) ?_
        refine lv_goto (tgt := 221) hx hb dX9_readsBrace_217 (by decide) ?_
        exact wk_X9_readsBrace_L221 hG hP _ _ _ _ _ _ _ _ _ _ hk hn hZ (lv_sub hl [0, 1, 2, 3, 4, 6] rfl) hw
    · replace hw := hw.2 c69
      exact wk_X9_readsBrace_L202 hG hP _ hk hn hZ (lv_sub hl [] rfl) hw
def wp_X9_readsBrace_L173 (D : zD) (P : (Int32 → zM → Prop) → Nat → Int32 → Int32 → zM → Prop) (post : Int32 → zM → Prop) (o : Nat) (y0 : Int32) (M : zM) : Prop :=
    (narrow .boolean (.int y0) = .int y0 ∧ post y0 M)
set_option maxHeartbeats 4000000 in
set_option maxRecDepth 100000 in
theorem wk_X9_readsBrace_L173 {p : Program} {l : Launch} {e : Env} {s : State} {m : MethodId} {args : Array Value} {below : List Frame} {meth : Method} {c : Code} {D : zD} {P : (Int32 → zM → Prop) → Nat → Int32 → Int32 → zM → Prop} {post : Int32 → zM → Prop} {d : Nat} {o : Nat} (hG : zGx p l s m args meth c cX9_readsBrace 8 "PluralBranchesModel" D (some .boolean) "readsBrace" []) (hP : ∀ (post : Int32 → zM → Prop) (o : Nat) (a0 : Int32) (a1 : Int32) (M : zM), P post o a0 a1 M → zMet l D yX9_readsMessage (ws_ yX9_readsMessage cX9_readsMessage 4 (some .boolean)) (rm_X9_readsMessage d) 0 0 [.ref o, .int a0, .int a1] M zI post (fun _ _ => False)) : ∀ {H : Heap} {locs : List Loc} {cells slots : Nat} {ls : Array Slot} (y0 : Int32) (M : zM), cells ≤ 0 → slots ≤ 0 → zS D M H locs → lv_has ls 8 [] → wp_X9_readsBrace_L173 D P post o y0 M → W p l e (rm_X9_readsBrace d) s m args below meth c H locs cells slots (vx_MQ below (zQ D zI post) (zX D (fun _ _ => False)) args s 0 0 (zA D)) (F0 m 173 ls [.int y0]) := by
  have hC := hG.1
  have hx := hC.x
  have hb := hC.b
  have hown := hC.o
  have hts := hC.ts
  have hlt := hG.2.2.2.2.2
  intro H locs cells slots ls y0 M hk hn hZ hl hw
  exact z_zret hG hZ hk hn hw.1 hw.2 dX9_readsBrace_173
def wp_X9_readsBrace_L172 (D : zD) (P : (Int32 → zM → Prop) → Nat → Int32 → Int32 → zM → Prop) (post : Int32 → zM → Prop) (o : Nat) (M : zM) : Prop :=
    wp_X9_readsBrace_L173 D P post o (0 : Int32) M
set_option maxHeartbeats 4000000 in
set_option maxRecDepth 100000 in
theorem wk_X9_readsBrace_L172 {p : Program} {l : Launch} {e : Env} {s : State} {m : MethodId} {args : Array Value} {below : List Frame} {meth : Method} {c : Code} {D : zD} {P : (Int32 → zM → Prop) → Nat → Int32 → Int32 → zM → Prop} {post : Int32 → zM → Prop} {d : Nat} {o : Nat} (hG : zGx p l s m args meth c cX9_readsBrace 8 "PluralBranchesModel" D (some .boolean) "readsBrace" []) (hP : ∀ (post : Int32 → zM → Prop) (o : Nat) (a0 : Int32) (a1 : Int32) (M : zM), P post o a0 a1 M → zMet l D yX9_readsMessage (ws_ yX9_readsMessage cX9_readsMessage 4 (some .boolean)) (rm_X9_readsMessage d) 0 0 [.ref o, .int a0, .int a1] M zI post (fun _ _ => False)) : ∀ {H : Heap} {locs : List Loc} {cells slots : Nat} {ls : Array Slot} (M : zM), cells ≤ 0 → slots ≤ 0 → zS D M H locs → lv_has ls 8 [] → wp_X9_readsBrace_L172 D P post o M → W p l e (rm_X9_readsBrace d) s m args below meth c H locs cells slots (vx_MQ below (zQ D zI post) (zX D (fun _ _ => False)) args s 0 0 (zA D)) (F0 m 172 ls []) := by
  have hC := hG.1
  have hx := hC.x
  have hb := hC.b
  have hown := hC.o
  have hts := hC.ts
  have hlt := hG.2.2.2.2.2
  intro H locs cells slots ls M hk hn hZ hl hw
  refine lv_iconst (v := 0) hx hb dX9_readsBrace_172 (by decide) ?_
  exact wk_X9_readsBrace_L173 hG hP _ _ hk hn hZ (lv_sub hl [] rfl) hw
def wp_X9_readsBrace (D : zD) (P : (Int32 → zM → Prop) → Nat → Int32 → Int32 → zM → Prop) (post : Int32 → zM → Prop) (o : Nat) (a0 : Int32) (a1 : Int32) (M : zM) : Prop :=
    (zgI M o 8 23 fun g71 => (zgI M o 8 23 fun g72 => (zp D M o 8 23 (.int (g72 + (1 : Int32))) fun M => ((zis M o [8] ∧ wp_X9_here D (fun r73 M => (wp_X9_in D (fun r76 M => ((¬ r76 = 0 → ((zis M o [8] ∧ wp_X9_here D (fun r79 M => (zgI M o 8 23 fun g82 => (zgI M o 8 23 fun g83 => (zp D M o 8 23 (.int (g83 + (1 : Int32))) fun M => ((zis M o [8] ∧ wp_X9_here D (fun r84 M => ((¬ r84 = (125 : Int32) → ((¬ r84 = (108 : Int32) → ((¬ r84 = (110 : Int32) → ((r84 = (112 : Int32) → wp_X9_readsBrace_L188 D P post o a0 a1 g71 (r79 - (65 : Int32)) g82 r84 M) ∧ (¬ r84 = (112 : Int32) → ((¬ r84 = (103 : Int32) → wp_X9_readsBrace_L202 D P post o M) ∧ (r84 = (103 : Int32) → wp_X9_readsBrace_L188 D P post o a0 a1 g71 (r79 - (65 : Int32)) g82 r84 M))))) ∧ (r84 = (110 : Int32) → ((zis M o [8] ∧ wp_X9_uses D (fun _ M => (zgI M o 8 23 fun g92 => (zp D M o 8 23 (.int (g92 + (1 : Int32))) fun M => ((zis M o [8] ∧ wp_X9_readsPattern D (fun r93 M => ((r93 = 0 → wp_X9_readsBrace_L172 D P post o M) ∧ (¬ r93 = 0 → ((zis M o [8] ∧ wp_X9_takes D (fun r96 M => ((r96 = 0 → wp_X9_readsBrace_L172 D P post o M) ∧ (¬ r96 = 0 → wp_X9_readsBrace_L173 D P post o (1 : Int32) M))) o (125 : Int32) M))))) o M))))) o (r79 - (65 : Int32)) g82 (1 : Int32) M))))) ∧ (r84 = (108 : Int32) → ((zis M o [8] ∧ wp_X9_uses D (fun _ M => (zgI M o 8 23 fun g106 => (zp D M o 8 23 (.int (g106 + (1 : Int32))) fun M => ((zis M o [8] ∧ wp_X9_takes D (fun r107 M => (narrow .boolean (.int r107) = .int r107 ∧ post r107 M)) o (125 : Int32) M))))) o (r79 - (65 : Int32)) g82 (3 : Int32) M))))) ∧ (r84 = (125 : Int32) → ((zis M o [8] ∧ wp_X9_uses D (fun _ M => (zgI M o 8 23 fun g115 => (zp D M o 8 23 (.int (g115 + (1 : Int32))) fun M => (narrow .boolean (.int (1 : Int32)) = .int (1 : Int32) ∧ post (1 : Int32) M)))) o (r79 - (65 : Int32)) g82 (0 : Int32) M))))) o M)))))) o M))) ∧ (r76 = 0 → (narrow .boolean (.int (0 : Int32)) = .int (0 : Int32) ∧ post (0 : Int32) M)))) (r73.toInt64) (65 : Int64) (69 : Int64) M)) o M)))))
set_option maxHeartbeats 4000000 in
set_option maxRecDepth 100000 in
theorem w_X9_readsBrace {l : Launch} {D : zD} {post : Int32 → zM → Prop} {P : (Int32 → zM → Prop) → Nat → Int32 → Int32 → zM → Prop} {d : Nat} (hlt : l.stackTraces = false) (hP : ∀ (post : Int32 → zM → Prop) (o : Nat) (a0 : Int32) (a1 : Int32) (M : zM), P post o a0 a1 M → zMet l D yX9_readsMessage (ws_ yX9_readsMessage cX9_readsMessage 4 (some .boolean)) (rm_X9_readsMessage d) 0 0 [.ref o, .int a0, .int a1] M zI post (fun _ _ => False)) {o : Nat} {a0 : Int32} {a1 : Int32} {M : zM} (hw : wp_X9_readsBrace D P post o a0 a1 M) : zMet l D yX9_readsBrace (ws_ yX9_readsBrace cX9_readsBrace 8 (some .boolean)) (rm_X9_readsBrace d) 0 0 [.ref o, .int a0, .int a1] M zI post (fun _ _ => False) := by
  unfold wp_X9_readsBrace at hw
  have hlv : lv_args 0 [.ref o, .int a0, .int a1] = [(0, .ref o), (1, .int a0), (2, .int a1)] := (zargs1 rfl (zargs1 rfl (zargs1 rfl rfl)))
  refine z_ofW hlt (by decide) (Nat.le_trans (zsl1 rfl (zsl1 rfl (zsl1 rfl (Nat.le_refl 0 : (lg_sl []).length ≤ 0)))) (Nat.le_of_ble_eq_true rfl)) hlv ?_
  intro p e s m args below meth c ls hG hZ hl
  have hC := hG.1
  have hx := hC.x
  have hb := hC.b
  have hown := hC.o
  have hts := hC.ts
  have hlt := hG.2.2.2.2.2
  obtain ⟨cells, hce⟩ : ∃ z : Nat, z = 0 := ⟨0, rfl⟩
  obtain ⟨slots, hsl⟩ : ∃ z : Nat, z = 0 := ⟨0, rfl⟩
  refine W.cs (cells' := cells) (slots' := slots) hce.symm hsl.symm ?_
  have hk : cells ≤ 0 := Nat.le_of_eq hce
  have hn : slots ≤ 0 := Nat.le_of_eq hsl
  clear hce hsl
  refine lv_aload_n hx hb dX9_readsBrace_0 rfl (lv_at hl 0 rfl) ?_
  obtain ⟨fs0, g121, hM0, hx0, hw⟩ := hw
  refine z_get hC hZ hM0 zc8 23 (by decide) q1743 (fun _ h9 => h9) hx0 dX9_readsBrace_1 ?_
  refine lv_istore_n (i := 3) (lv' := [(3, .int g121), (0, .ref o), (1, .int a0), (2, .int a1)]) hx hb dX9_readsBrace_4 rfl hl (by decide) rfl (fun ls hl1 => ?_)
  replace hl := hl1
  clear hl1
  refine lv_aload_n hx hb dX9_readsBrace_5 rfl (lv_at hl 1 rfl) ?_
  refine lv_dup hx hb dX9_readsBrace_6 rfl ?_
  obtain ⟨fs0, g122, hM0, hx0, hw⟩ := hw
  refine z_get hC hZ hM0 zc8 23 (by decide) q1743 (fun _ h9 => h9) hx0 dX9_readsBrace_7 ?_
  refine lv_iconst (v := 1) hx hb dX9_readsBrace_10 (by decide) ?_
  refine lv_iadd hx hb dX9_readsBrace_11 ?_
  obtain ⟨fs0, hM0, hb0, hk0, hw⟩ := hw
  refine z_put hC hZ hM0 hb0 zc8 23 (by decide) q1743 (fun _ h9 => h9) (by decide) rfl rfl hk0 dX9_readsBrace_12 (fun H locs hZ => ?_)
  generalize zu M _ _ = M at hw hZ
  refine lv_aload_n hx hb dX9_readsBrace_15 rfl (lv_at hl 1 rfl) ?_
  obtain ⟨⟨ci0, fs0, hci0, hM0⟩, hw⟩ := hw
  obtain rfl : ci0 = 8 := List.mem_singleton.mp hci0
  refine z_callI hZ (vx_runV (As := []) (rest := []) hC.fix (w_X9_here hlt hw) (cwV 0 hts (lw_V q1970 q1972 qs33 q83 q1973) rfl rfl rfl ⟨rfl, dd_X9_here⟩ ⟨(show 1 + 1 ≤ 5 + 3 * d by omega), (show 8 + (1 + 11) + (64) ≤ 159 + 77 * d by omega)⟩) (z_preV hC hZ hM0 zc8) rfl rfl hl.1 rfl (lv_room (Nat.zero_le _)) dX9_readsBrace_16 ⟨hk, hn⟩) (fun r123 M H locs hw1 hZ => ?_) (fun q M H locs ci fs E T9 N9 hw hZ hc1 hM1 hb1 => False.elim hw)
  replace hw := hw1
  clear hw1
  refine W.cs (cells' := cells) (slots' := slots) rfl rfl ?_
  refine lv_i2l hx hb dX9_readsBrace_19 rfl ?_
  refine lv_ldc2 hx hb hown (hts _ q1983) dX9_readsBrace_20 ?_
  refine lv_ldc2 hx hb hown (hts _ q1984) dX9_readsBrace_23 ?_
  refine z_callI hZ (vx_runS (As := [.long (r123.toInt64), .long (65 : Int64), .long (69 : Int64)]) (rest := []) hC.fix (w_X9_in hlt hw) (va_cwS 3 hts (lw_S q1894 q1895 q83 q1896) rfl rfl rfl dd_X9_in ⟨(show 1 + 1 ≤ 5 + 3 * d by omega), (show 8 + (6 + 11) + (64) ≤ 159 + 77 * d by omega)⟩) (z_preS hC hZ) rfl rfl hl.1 rfl (lv_room (Nat.zero_le _)) dX9_readsBrace_26 ⟨hk, hn⟩) (fun r126 M H locs hw1 hZ => ?_) (fun q M H locs ci fs E T9 N9 hw hZ hc1 hM1 hb1 => False.elim hw)
  replace hw := hw1
  clear hw1
  refine W.cs (cells' := cells) (slots' := slots) rfl rfl ?_
  refine lv_if_ne (tgt := 34) hx hb dX9_readsBrace_29 (by decide) (fun c169 => ?_) (fun c169 => ?_)
  · replace hw := hw.1 c169
    refine lv_aload_n hx hb dX9_readsBrace_34 rfl (lv_at hl 1 rfl) ?_
    obtain ⟨⟨ci0, fs0, hci0, hM0⟩, hw⟩ := hw
    obtain rfl : ci0 = 8 := List.mem_singleton.mp hci0
    refine z_callI hZ (vx_runV (As := []) (rest := []) hC.fix (w_X9_here hlt hw) (cwV 0 hts (lw_V q1970 q1972 qs33 q83 q1973) rfl rfl rfl ⟨rfl, dd_X9_here⟩ ⟨(show 1 + 1 ≤ 5 + 3 * d by omega), (show 8 + (1 + 11) + (64) ≤ 159 + 77 * d by omega)⟩) (z_preV hC hZ hM0 zc8) rfl rfl hl.1 rfl (lv_room (Nat.zero_le _)) dX9_readsBrace_35 ⟨hk, hn⟩) (fun r129 M H locs hw1 hZ => ?_) (fun q M H locs ci fs E T9 N9 hw hZ hc1 hM1 hb1 => False.elim hw)
    replace hw := hw1
    clear hw1
    refine W.cs (cells' := cells) (slots' := slots) rfl rfl ?_
    refine lv_bipush (v := 65) hx hb dX9_readsBrace_38 (by decide) ?_
    refine lv_isub hx hb dX9_readsBrace_40 ?_
    refine lv_istore (i := 4) (lv' := [(4, .int (r129 - (65 : Int32))), (3, .int g121), (0, .ref o), (1, .int a0), (2, .int a1)]) hx hb dX9_readsBrace_41 hl (by decide) rfl (fun ls hl1 => ?_)
    replace hl := hl1
    clear hl1
    refine lv_aload_n hx hb dX9_readsBrace_43 rfl (lv_at hl 2 rfl) ?_
    obtain ⟨fs0, g132, hM0, hx0, hw⟩ := hw
    refine z_get hC hZ hM0 zc8 23 (by decide) q1743 (fun _ h9 => h9) hx0 dX9_readsBrace_44 ?_
    refine lv_istore (i := 5) (lv' := [(5, .int g132), (4, .int (r129 - (65 : Int32))), (3, .int g121), (0, .ref o), (1, .int a0), (2, .int a1)]) hx hb dX9_readsBrace_47 hl (by decide) rfl (fun ls hl1 => ?_)
    replace hl := hl1
    clear hl1
    refine lv_aload_n hx hb dX9_readsBrace_49 rfl (lv_at hl 3 rfl) ?_
    refine lv_dup hx hb dX9_readsBrace_50 rfl ?_
    obtain ⟨fs0, g133, hM0, hx0, hw⟩ := hw
    refine z_get hC hZ hM0 zc8 23 (by decide) q1743 (fun _ h9 => h9) hx0 dX9_readsBrace_51 ?_
    refine lv_iconst (v := 1) hx hb dX9_readsBrace_54 (by decide) ?_
    refine lv_iadd hx hb dX9_readsBrace_55 ?_
    obtain ⟨fs0, hM0, hb0, hk0, hw⟩ := hw
    refine z_put hC hZ hM0 hb0 zc8 23 (by decide) q1743 (fun _ h9 => h9) (by decide) rfl rfl hk0 dX9_readsBrace_56 (fun H locs hZ => ?_)
    generalize zu M _ _ = M at hw hZ
    refine lv_aload_n hx hb dX9_readsBrace_59 rfl (lv_at hl 3 rfl) ?_
    obtain ⟨⟨ci0, fs0, hci0, hM0⟩, hw⟩ := hw
    obtain rfl : ci0 = 8 := List.mem_singleton.mp hci0
    refine z_callI hZ (vx_runV (As := []) (rest := []) hC.fix (w_X9_here hlt hw) (cwV 0 hts (lw_V q1970 q1972 qs33 q83 q1973) rfl rfl rfl ⟨rfl, dd_X9_here⟩ ⟨(show 1 + 1 ≤ 5 + 3 * d by omega), (show 8 + (1 + 11) + (64) ≤ 159 + 77 * d by omega)⟩) (z_preV hC hZ hM0 zc8) rfl rfl hl.1 rfl (lv_room (Nat.zero_le _)) dX9_readsBrace_60 ⟨hk, hn⟩) (fun r134 M H locs hw1 hZ => ?_) (fun q M H locs ci fs E T9 N9 hw hZ hc1 hM1 hb1 => False.elim hw)
    replace hw := hw1
    clear hw1
    refine W.cs (cells' := cells) (slots' := slots) rfl rfl ?_
    refine lv_istore (i := 6) (lv' := [(6, .int r134), (5, .int g132), (4, .int (r129 - (65 : Int32))), (3, .int g121), (0, .ref o), (1, .int a0), (2, .int a1)]) hx hb dX9_readsBrace_63 hl (by decide) rfl (fun ls hl1 => ?_)
    replace hl := hl1
    clear hl1
    refine lv_iload hx hb dX9_readsBrace_65 (lv_at hl 0 rfl) ?_
    refine lv_bipush (v := 125) hx hb dX9_readsBrace_67 (by decide) ?_
    refine lv_icmp_ne (tgt := 93) hx hb dX9_readsBrace_69 (by decide) (fun c167 => ?_) (fun c167 => ?_)
    · replace hw := hw.1 c167
      refine lv_iload hx hb dX9_readsBrace_93 (lv_at hl 0 rfl) ?_
      refine lv_bipush (v := 108) hx hb dX9_readsBrace_95 (by decide) ?_
      refine lv_icmp_ne (tgt := 126) hx hb dX9_readsBrace_97 (by decide) (fun c161 => ?_) (fun c161 => ?_)
      · replace hw := hw.1 c161
        refine lv_iload hx hb dX9_readsBrace_126 (lv_at hl 0 rfl) ?_
        refine lv_bipush (v := 110) hx hb dX9_readsBrace_128 (by decide) ?_
        refine lv_icmp_ne (tgt := 174) hx hb dX9_readsBrace_130 (by decide) (fun c152 => ?_) (fun c152 => ?_)
        · replace hw := hw.1 c152
          refine lv_iload hx hb dX9_readsBrace_174 (lv_at hl 0 rfl) ?_
          refine lv_bipush (v := 112) hx hb dX9_readsBrace_176 (by decide) ?_
          refine lv_icmp_eq (tgt := 188) hx hb dX9_readsBrace_178 (by decide) (fun c138 => ?_) (fun c138 => ?_)
          · replace hw := hw.1 c138
            exact wk_X9_readsBrace_L188 hG hP _ _ _ _ _ _ _ hk hn hZ (lv_sub hl [4, 5, 6, 3, 2, 1, 0] rfl) hw
          · replace hw := hw.2 c138
            refine lv_iload hx hb dX9_readsBrace_181 (lv_at hl 0 rfl) ?_
            refine lv_bipush (v := 103) hx hb dX9_readsBrace_183 (by decide) ?_
            refine lv_icmp_ne (tgt := 202) hx hb dX9_readsBrace_185 (by decide) (fun c137 => ?_) (fun c137 => ?_)
            · replace hw := hw.1 c137
              exact wk_X9_readsBrace_L202 hG hP _ hk hn hZ (lv_sub hl [] rfl) hw
            · replace hw := hw.2 c137
              exact wk_X9_readsBrace_L188 hG hP _ _ _ _ _ _ _ hk hn hZ (lv_sub hl [4, 5, 6, 3, 2, 1, 0] rfl) hw
        · replace hw := hw.2 c152
          refine lv_aload_n hx hb dX9_readsBrace_133 rfl (lv_at hl 4 rfl) ?_
          refine lv_iload hx hb dX9_readsBrace_134 (lv_at hl 2 rfl) ?_
          refine lv_iload hx hb dX9_readsBrace_136 (lv_at hl 1 rfl) ?_
          refine lv_iconst (v := 1) hx hb dX9_readsBrace_138 (by decide) ?_
          obtain ⟨⟨ci0, fs0, hci0, hM0⟩, hw⟩ := hw
          obtain rfl : ci0 = 8 := List.mem_singleton.mp hci0
          refine z_callU hZ (vx_runV (As := [.int (r129 - (65 : Int32)), .int g132, .int (1 : Int32)]) (rest := []) hC.fix (w_X9_uses hlt hw) (cwV 3 hts (lw_V q1985 q1987 qs35 q83 q1988) rfl rfl rfl ⟨rfl, dd_X9_uses⟩ ⟨(show 2 + 1 ≤ 5 + 3 * d by omega), (show 8 + (4 + 11) + (85) ≤ 159 + 77 * d by omega)⟩) (z_preV hC hZ hM0 zc8) rfl rfl hl.1 rfl (lv_room (Nat.zero_le _)) dX9_readsBrace_139 ⟨hk, hn⟩) (fun r139 M H locs hw1 hZ => ?_) (fun q M H locs ci fs E T9 N9 hw hZ hc1 hM1 hb1 => False.elim hw)
          replace hw := hw1
          clear hw1
          refine W.cs (cells' := cells) (slots' := slots) rfl rfl ?_
          refine lv_aload_n hx hb dX9_readsBrace_142 rfl (lv_at hl 4 rfl) ?_
          refine lv_dup hx hb dX9_readsBrace_143 rfl ?_
          obtain ⟨fs0, g142, hM0, hx0, hw⟩ := hw
          refine z_get hC hZ hM0 zc8 23 (by decide) q1743 (fun _ h9 => h9) hx0 dX9_readsBrace_144 ?_
          refine lv_iconst (v := 1) hx hb dX9_readsBrace_147 (by decide) ?_
          refine lv_iadd hx hb dX9_readsBrace_148 ?_
          obtain ⟨fs0, hM0, hb0, hk0, hw⟩ := hw
          refine z_put hC hZ hM0 hb0 zc8 23 (by decide) q1743 (fun _ h9 => h9) (by decide) rfl rfl hk0 dX9_readsBrace_149 (fun H locs hZ => ?_)
          generalize zu M _ _ = M at hw hZ
          refine lv_aload_n hx hb dX9_readsBrace_152 rfl (lv_at hl 4 rfl) ?_
          obtain ⟨⟨ci0, fs0, hci0, hM0⟩, hw⟩ := hw
          obtain rfl : ci0 = 8 := List.mem_singleton.mp hci0
          refine z_callI hZ (vx_runV (As := []) (rest := []) hC.fix (w_X9_readsPattern hlt hw) (cwV 0 hts (lw_V q1997 q1999 qs38 q83 q2000) rfl rfl rfl ⟨rfl, dd_X9_readsPattern⟩ ⟨(show 3 + 1 ≤ 5 + 3 * d by omega), (show 8 + (1 + 11) + (107) ≤ 159 + 77 * d by omega)⟩) (z_preV hC hZ hM0 zc8) rfl rfl hl.1 rfl (lv_room (Nat.zero_le _)) dX9_readsBrace_153 ⟨hk, hn⟩) (fun r143 M H locs hw1 hZ => ?_) (fun q M H locs ci fs E T9 N9 hw hZ hc1 hM1 hb1 => False.elim hw)
          replace hw := hw1
          clear hw1
          refine W.cs (cells' := cells) (slots' := slots) rfl rfl ?_
          refine lv_if_eq (tgt := 172) hx hb dX9_readsBrace_156 (by decide) (fun c150 => ?_) (fun c150 => ?_)
          · replace hw := hw.1 c150
            exact wk_X9_readsBrace_L172 hG hP _ hk hn hZ (lv_sub hl [] rfl) hw
          · replace hw := hw.2 c150
            refine lv_aload_n hx hb dX9_readsBrace_159 rfl (lv_at hl 4 rfl) ?_
            refine lv_bipush (v := 125) hx hb dX9_readsBrace_160 (by decide) ?_
            obtain ⟨⟨ci0, fs0, hci0, hM0⟩, hw⟩ := hw
            obtain rfl : ci0 = 8 := List.mem_singleton.mp hci0
            refine z_callI hZ (vx_runV (As := [.int (125 : Int32)]) (rest := []) hC.fix (w_X9_takes hlt hw) (cwV 1 hts (lw_V q1993 q1995 qs37 q83 q1996) rfl rfl rfl ⟨rfl, dd_X9_takes⟩ ⟨(show 2 + 1 ≤ 5 + 3 * d by omega), (show 8 + (2 + 11) + (84) ≤ 159 + 77 * d by omega)⟩) (z_preV hC hZ hM0 zc8) rfl rfl hl.1 rfl (lv_room (Nat.zero_le _)) dX9_readsBrace_162 ⟨hk, hn⟩) (fun r146 M H locs hw1 hZ => ?_) (fun q M H locs ci fs E T9 N9 hw hZ hc1 hM1 hb1 => False.elim hw)
            replace hw := hw1
            clear hw1
            refine W.cs (cells' := cells) (slots' := slots) rfl rfl ?_
            refine lv_if_eq (tgt := 172) hx hb dX9_readsBrace_165 (by decide) (fun c149 => ?_) (fun c149 => ?_)
            · replace hw := hw.1 c149
              exact wk_X9_readsBrace_L172 hG hP _ hk hn hZ (lv_sub hl [] rfl) hw
            · replace hw := hw.2 c149
              refine lv_iconst (v := 1) hx hb dX9_readsBrace_168 (by decide) ?_
              refine lv_goto (tgt := 173) hx hb dX9_readsBrace_169 (by decide) ?_
              exact wk_X9_readsBrace_L173 hG hP _ _ hk hn hZ (lv_sub hl [] rfl) hw
      · replace hw := hw.2 c161
        refine lv_aload_n hx hb dX9_readsBrace_100 rfl (lv_at hl 4 rfl) ?_
        refine lv_iload hx hb dX9_readsBrace_101 (lv_at hl 2 rfl) ?_
        refine lv_iload hx hb dX9_readsBrace_103 (lv_at hl 1 rfl) ?_
        refine lv_iconst (v := 3) hx hb dX9_readsBrace_105 (by decide) ?_
        obtain ⟨⟨ci0, fs0, hci0, hM0⟩, hw⟩ := hw
        obtain rfl : ci0 = 8 := List.mem_singleton.mp hci0
        refine z_callU hZ (vx_runV (As := [.int (r129 - (65 : Int32)), .int g132, .int (3 : Int32)]) (rest := []) hC.fix (w_X9_uses hlt hw) (cwV 3 hts (lw_V q1985 q1987 qs35 q83 q1988) rfl rfl rfl ⟨rfl, dd_X9_uses⟩ ⟨(show 2 + 1 ≤ 5 + 3 * d by omega), (show 8 + (4 + 11) + (85) ≤ 159 + 77 * d by omega)⟩) (z_preV hC hZ hM0 zc8) rfl rfl hl.1 rfl (lv_room (Nat.zero_le _)) dX9_readsBrace_106 ⟨hk, hn⟩) (fun r153 M H locs hw1 hZ => ?_) (fun q M H locs ci fs E T9 N9 hw hZ hc1 hM1 hb1 => False.elim hw)
        replace hw := hw1
        clear hw1
        refine W.cs (cells' := cells) (slots' := slots) rfl rfl ?_
        refine lv_aload_n hx hb dX9_readsBrace_109 rfl (lv_at hl 4 rfl) ?_
        refine lv_dup hx hb dX9_readsBrace_110 rfl ?_
        obtain ⟨fs0, g156, hM0, hx0, hw⟩ := hw
        refine z_get hC hZ hM0 zc8 23 (by decide) q1743 (fun _ h9 => h9) hx0 dX9_readsBrace_111 ?_
        refine lv_iconst (v := 1) hx hb dX9_readsBrace_114 (by decide) ?_
        refine lv_iadd hx hb dX9_readsBrace_115 ?_
        obtain ⟨fs0, hM0, hb0, hk0, hw⟩ := hw
        refine z_put hC hZ hM0 hb0 zc8 23 (by decide) q1743 (fun _ h9 => h9) (by decide) rfl rfl hk0 dX9_readsBrace_116 (fun H locs hZ => ?_)
        generalize zu M _ _ = M at hw hZ
        refine lv_aload_n hx hb dX9_readsBrace_119 rfl (lv_at hl 4 rfl) ?_
        refine lv_bipush (v := 125) hx hb dX9_readsBrace_120 (by decide) ?_
        obtain ⟨⟨ci0, fs0, hci0, hM0⟩, hw⟩ := hw
        obtain rfl : ci0 = 8 := List.mem_singleton.mp hci0
        refine z_callI hZ (vx_runV (As := [.int (125 : Int32)]) (rest := []) hC.fix (w_X9_takes hlt hw) (cwV 1 hts (lw_V q1993 q1995 qs37 q83 q1996) rfl rfl rfl ⟨rfl, dd_X9_takes⟩ ⟨(show 2 + 1 ≤ 5 + 3 * d by omega), (show 8 + (2 + 11) + (84) ≤ 159 + 77 * d by omega)⟩) (z_preV hC hZ hM0 zc8) rfl rfl hl.1 rfl (lv_room (Nat.zero_le _)) dX9_readsBrace_122 ⟨hk, hn⟩) (fun r157 M H locs hw1 hZ => ?_) (fun q M H locs ci fs E T9 N9 hw hZ hc1 hM1 hb1 => False.elim hw)
        replace hw := hw1
        clear hw1
        refine W.cs (cells' := cells) (slots' := slots) rfl rfl ?_
        exact z_zret hG hZ hk hn hw.1 hw.2 dX9_readsBrace_125
    · replace hw := hw.2 c167
      refine lv_aload_n hx hb dX9_readsBrace_72 rfl (lv_at hl 4 rfl) ?_
      refine lv_iload hx hb dX9_readsBrace_73 (lv_at hl 2 rfl) ?_
      refine lv_iload hx hb dX9_readsBrace_75 (lv_at hl 1 rfl) ?_
      refine lv_iconst (v := 0) hx hb dX9_readsBrace_77 (by decide) ?_
      obtain ⟨⟨ci0, fs0, hci0, hM0⟩, hw⟩ := hw
      obtain rfl : ci0 = 8 := List.mem_singleton.mp hci0
      refine z_callU hZ (vx_runV (As := [.int (r129 - (65 : Int32)), .int g132, .int (0 : Int32)]) (rest := []) hC.fix (w_X9_uses hlt hw) (cwV 3 hts (lw_V q1985 q1987 qs35 q83 q1988) rfl rfl rfl ⟨rfl, dd_X9_uses⟩ ⟨(show 2 + 1 ≤ 5 + 3 * d by omega), (show 8 + (4 + 11) + (85) ≤ 159 + 77 * d by omega)⟩) (z_preV hC hZ hM0 zc8) rfl rfl hl.1 rfl (lv_room (Nat.zero_le _)) dX9_readsBrace_78 ⟨hk, hn⟩) (fun r162 M H locs hw1 hZ => ?_) (fun q M H locs ci fs E T9 N9 hw hZ hc1 hM1 hb1 => False.elim hw)
      replace hw := hw1
      clear hw1
      refine W.cs (cells' := cells) (slots' := slots) rfl rfl ?_
      refine lv_aload_n hx hb dX9_readsBrace_81 rfl (lv_at hl 4 rfl) ?_
      refine lv_dup hx hb dX9_readsBrace_82 rfl ?_
      obtain ⟨fs0, g165, hM0, hx0, hw⟩ := hw
      refine z_get hC hZ hM0 zc8 23 (by decide) q1743 (fun _ h9 => h9) hx0 dX9_readsBrace_83 ?_
      refine lv_iconst (v := 1) hx hb dX9_readsBrace_86 (by decide) ?_
      refine lv_iadd hx hb dX9_readsBrace_87 ?_
      obtain ⟨fs0, hM0, hb0, hk0, hw⟩ := hw
      refine z_put hC hZ hM0 hb0 zc8 23 (by decide) q1743 (fun _ h9 => h9) (by decide) rfl rfl hk0 dX9_readsBrace_88 (fun H locs hZ => ?_)
      generalize zu M _ _ = M at hw hZ
      refine lv_iconst (v := 1) hx hb dX9_readsBrace_91 (by decide) ?_
      exact z_zret hG hZ hk hn hw.1 hw.2 dX9_readsBrace_92
  · replace hw := hw.2 c169
    refine lv_iconst (v := 0) hx hb dX9_readsBrace_32 (by decide) ?_
    exact z_zret hG hZ hk hn hw.1 hw.2 dX9_readsBrace_33
