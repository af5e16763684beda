set_option maxRecDepth 100000
theorem dd_J0_multiplyExact_2 : yJ0_multiplyExact_2.cls ≠ "java/lang/invoke/MethodHandle" ∧ yJ0_multiplyExact_2.cls ≠ "java/lang/invoke/VarHandle" ∧ (parseMethodDescriptor yJ0_multiplyExact_2.desc).map (fun d => d.parameters.length) = some 2 := by decide +kernel
theorem dd_J3_ensureCapacity : yJ3_ensureCapacity.cls ≠ "java/lang/invoke/MethodHandle" ∧ yJ3_ensureCapacity.cls ≠ "java/lang/invoke/VarHandle" ∧ (parseMethodDescriptor yJ3_ensureCapacity.desc).map (fun d => d.parameters.length) = some 1 := by decide +kernel
theorem dd_J3_init : yJ3_init.cls ≠ "java/lang/invoke/MethodHandle" ∧ yJ3_init.cls ≠ "java/lang/invoke/VarHandle" ∧ (parseMethodDescriptor yJ3_init.desc).map (fun d => d.parameters.length) = some 0 := by decide +kernel
theorem dd_X26_init : yX26_init.cls ≠ "java/lang/invoke/MethodHandle" ∧ yX26_init.cls ≠ "java/lang/invoke/VarHandle" ∧ (parseMethodDescriptor yX26_init.desc).map (fun d => d.parameters.length) = some 1 := by decide +kernel
theorem dd_X2_init : yX2_init.cls ≠ "java/lang/invoke/MethodHandle" ∧ yX2_init.cls ≠ "java/lang/invoke/VarHandle" ∧ (parseMethodDescriptor yX2_init.desc).map (fun d => d.parameters.length) = some 0 := by decide +kernel
theorem dd_X3_init : yX3_init.cls ≠ "java/lang/invoke/MethodHandle" ∧ yX3_init.cls ≠ "java/lang/invoke/VarHandle" ∧ (parseMethodDescriptor yX3_init.desc).map (fun d => d.parameters.length) = some 1 := by decide +kernel
theorem dd_X5_init : yX5_init.cls ≠ "java/lang/invoke/MethodHandle" ∧ yX5_init.cls ≠ "java/lang/invoke/VarHandle" ∧ (parseMethodDescriptor yX5_init.desc).map (fun d => d.parameters.length) = some 0 := by decide +kernel
theorem dd_X6_init : yX6_init.cls ≠ "java/lang/invoke/MethodHandle" ∧ yX6_init.cls ≠ "java/lang/invoke/VarHandle" ∧ (parseMethodDescriptor yX6_init.desc).map (fun d => d.parameters.length) = some 0 := by decide +kernel
theorem dd_X7_init : yX7_init.cls ≠ "java/lang/invoke/MethodHandle" ∧ yX7_init.cls ≠ "java/lang/invoke/VarHandle" ∧ (parseMethodDescriptor yX7_init.desc).map (fun d => d.parameters.length) = some 0 := by decide +kernel
abbrev rm_X0_decimal (K N : Nat) : Room := { frames := 3, cells := K, slots := N, locals := 111 }
def wp_X0_decimal_L14 (D : zD) (post : Int32 → zM → Prop) (o : Nat) (k : Nat) (n : Nat) (M : zM) : Prop :=
    post (-1 : Int32) M
set_option maxHeartbeats 4000000 in
set_option maxRecDepth 100000 in
theorem wk_X0_decimal_L14 {p : Program} {l : Launch} {e : Env} {s : State} {m : MethodId} {args : Array Value} {below : List Frame} {meth : Method} {c : Code} {D : zD} {post : Int32 → zM → Prop} {K N : Nat} {o : Nat} (hG : zGx p l s m args meth c cX0_decimal 4 "PluralBranches" D (some .int) "decimal" []) : ∀ {H : Heap} {locs : List Loc} {cells slots : Nat} {ls : Array Slot} (k : Nat) (n : Nat) (M : zM), cells + k ≤ K → slots + n ≤ N → zS D M H locs → lv_has ls 4 [] → wp_X0_decimal_L14 D post o k n M → W p l e (rm_X0_decimal K N) s m args below meth c H locs cells slots (vx_MQ below (zQ D zI post) (zX D (fun _ _ => False)) args s K N (zA D)) (F0 m 14 ls []) := by
  have hC := hG.1
  have hx := hC.x
  have hb := hC.b
  have hown := hC.o
  have hts := hC.ts
  have hlt := hG.2.2.2.2.2
  intro H locs cells slots ls k n M hk hn hZ hl hw
  refine lv_iconst (v := (-1)) hx hb dX0_decimal_14 (by decide) ?_
  exact z_iret hG hZ (by omega) (by omega) hw dX0_decimal_15
def wp_X0_decimal (D : zD) (post : Int32 → zM → Prop) (k : Nat) (n : Nat) (o : Nat) (a0 : Int32) (a1 : Int32) (a2 : Int32) (M : zM) : Prop :=
    (wp_X0_isArgument D (fun r1 M => ((r1 = 0 → wp_X0_decimal_L14 D post o k n M) ∧ (¬ r1 = 0 → (wp_X0_isScale D (fun r4 M => ((¬ r4 = 0 → (zgR M o 0 6 fun g7 => (znew D M 22 1 [.null] k n fun b8 M => (znew D M 1 6 [.int 0, .int 0, .long 0, .long 0, .int 0, .long 0] (k - 1) (n - 1) fun b9 M => (wp_X1_init_2 D (fun _ M => (wp_X25_init D (fun _ M => ((zd g7 fun b16 => zsR D M b16 9 a0 (some b8) fun M => post (1 : Int32) M))) b8 (some b9) M)) b9 a1 a2 M))))) ∧ (r4 = 0 → wp_X0_decimal_L14 D post o k n M))) a2 M)))) a0 M)
set_option maxHeartbeats 4000000 in
set_option maxRecDepth 100000 in
theorem w_X0_decimal {l : Launch} {D : zD} {post : Int32 → zM → Prop} (hlt : l.stackTraces = false) {k : Nat} {n : Nat} {o : Nat} {a0 : Int32} {a1 : Int32} {a2 : Int32} {M : zM} (hw : wp_X0_decimal D post k n o a0 a1 a2 M) : zMet l D yX0_decimal (ws_ yX0_decimal cX0_decimal 4 (some .int)) (rm_X0_decimal k n) k n [.ref o, .int a0, .int a1, .int a2] M zI post (fun _ _ => False) := by
  unfold wp_X0_decimal at hw
  have hlv : lv_args 0 [.ref o, .int a0, .int a1, .int a2] = [(0, .ref o), (1, .int a0), (2, .int a1), (3, .int a2)] := (zargs1 rfl (zargs1 rfl (zargs1 rfl (zargs1 rfl rfl))))
  refine z_ofW hlt (by decide) (Nat.le_trans (zsl1 rfl (zsl1 rfl (zsl1 rfl (zsl1 rfl (Nat.le_refl 0 : (lg_sl []).length ≤ 0))))) (Nat.le_of_ble_eq_true rfl)) hlv ?_
  intro p e s m args below meth c ls hG hZ hl
  have hC := hG.1
  have hx := hC.x
  have hb := hC.b
  have hown := hC.o
  have hts := hC.ts
  have hlt := hG.2.2.2.2.2
  obtain ⟨cells, hce⟩ : ∃ z : Nat, z = 0 := ⟨0, rfl⟩
  obtain ⟨slots, hsl⟩ : ∃ z : Nat, z = 0 := ⟨0, rfl⟩
  refine W.cs (cells' := cells) (slots' := slots) hce.symm hsl.symm ?_
  have hk : cells + k ≤ k := by omega
  have hn : slots + n ≤ n := by omega
  clear hce hsl
  refine lv_iload_n hx hb dX0_decimal_0 rfl (lv_at hl 1 rfl) ?_
  refine z_callI hZ (vx_runS (As := [.int a0]) (rest := []) hC.fix (w_X0_isArgument hlt hw) (va_cwS 1 hts (lw_S q1085 q1086 q67 q1087) rfl rfl rfl dd_X0_isArgument ⟨Nat.le_of_ble_eq_true rfl, Nat.le_of_ble_eq_true rfl⟩) (z_preS hC hZ) rfl rfl hl.1 rfl (lv_room (Nat.zero_le _)) dX0_decimal_1 ⟨(show cells + 0 ≤ k by omega), (show slots + 0 ≤ n by omega)⟩) (fun r19 M H locs hw1 hZ => ?_) (fun q M H locs ci fs E T9 N9 hw hZ hc1 hM1 hb1 => False.elim hw)
  replace hw := hw1
  clear hw1
  refine W.cs (cells' := cells) (slots' := slots) rfl rfl ?_
  refine lv_if_eq (tgt := 14) hx hb dX0_decimal_4 (by decide) (fun c36 => ?_) (fun c36 => ?_)
  · replace hw := hw.1 c36
    exact wk_X0_decimal_L14 hG _ _ _ hk hn hZ (lv_sub hl [] rfl) hw
  · replace hw := hw.2 c36
    refine lv_iload_n hx hb dX0_decimal_7 rfl (lv_at hl 3 rfl) ?_
    refine z_callI hZ (vx_runS (As := [.int a2]) (rest := []) hC.fix (w_X0_isScale hlt hw) (va_cwS 1 hts (lw_S q430 q431 q67 q432) rfl rfl rfl dd_X0_isScale ⟨Nat.le_of_ble_eq_true rfl, Nat.le_of_ble_eq_true rfl⟩) (z_preS hC hZ) rfl rfl hl.1 rfl (lv_room (Nat.zero_le _)) dX0_decimal_8 ⟨(show cells + 0 ≤ k by omega), (show slots + 0 ≤ n by omega)⟩) (fun r22 M H locs hw1 hZ => ?_) (fun q M H locs ci fs E T9 N9 hw hZ hc1 hM1 hb1 => False.elim hw)
    replace hw := hw1
    clear hw1
    refine W.cs (cells' := cells) (slots' := slots) rfl rfl ?_
    refine lv_if_ne (tgt := 16) hx hb dX0_decimal_11 (by decide) (fun c35 => ?_) (fun c35 => ?_)
    · replace hw := hw.1 c35
      refine lv_aload_n hx hb dX0_decimal_16 rfl (lv_at hl 0 rfl) ?_
      obtain ⟨fs0, g25, hM0, hx0, hw⟩ := hw
      refine z_get hC hZ hM0 zc0 6 (by decide) q407 (fun _ h9 => h9) hx0 dX0_decimal_17 ?_
      refine lv_iload_n hx hb dX0_decimal_20 rfl (lv_at hl 1 rfl) ?_
      obtain ⟨hk1, hn1, hw⟩ := hw
      refine z_new (fs := [.null]) hC hZ zc22 q1174 q1175 q109 (zdefs (N := 1) (ty := tyX25) (fs := [.null]) (by decide)) (show cells + 1 ≤ k by omega) (show slots + 1 ≤ n by omega) dX0_decimal_21 (fun b26 H hq0 hq1 hZ => ?_)
      replace hw := hw b26 hq0 hq1
      generalize zu M _ _ = M at hw hZ
      have hk : cells + 1 + (k - 1) ≤ k := by omega
      have hn : slots + 1 + (n - 1) ≤ n := by omega
      generalize cells + 1 = cells at hk ⊢
      generalize slots + 1 = slots at hn ⊢
      clear hk1 hn1
      refine lv_dup hx hb dX0_decimal_24 rfl ?_
      obtain ⟨hk1, hn1, hw⟩ := hw
      refine z_new (fs := [.int 0, .int 0, .long 0, .long 0, .int 0, .long 0]) hC hZ zc1 q128 q130 q68 (zdefs (N := 6) (ty := tyX1) (fs := [.int 0, .int 0, .long 0, .long 0, .int 0, .long 0]) (by decide)) (show cells + 1 ≤ k by omega) (show slots + 6 ≤ n by omega) dX0_decimal_25 (fun b27 H hq0 hq1 hZ => ?_)
      replace hw := hw b27 hq0 hq1
      generalize zu M _ _ = M at hw hZ
      have hk : cells + 1 + ((k - 1) - 1) ≤ k := by omega
      have hn : slots + 6 + ((n - 1) - 6) ≤ n := by omega
      generalize cells + 1 = cells at hk ⊢
      generalize slots + 6 = slots at hn ⊢
      clear hk1 hn1
      refine lv_dup hx hb dX0_decimal_28 rfl ?_
      refine lv_iload_n hx hb dX0_decimal_29 rfl (lv_at hl 2 rfl) ?_
      refine lv_iload_n hx hb dX0_decimal_30 rfl (lv_at hl 3 rfl) ?_
      refine z_callU hZ (vx_runI (As := [.int a1, .int a2]) (rest := [.ref b27, .ref b26, .ref b26, .int a0, va_rf g25]) hC.fix (w_X1_init_2 hlt hw) (cwI 2 hts (lw_meth q136) rfl rfl rfl (hts _ q68) (hts _ q176) (hts _ q135) rfl dd_X1_init_2 ⟨Nat.le_of_ble_eq_true rfl, Nat.le_of_ble_eq_true rfl⟩) (z_preS hC hZ) rfl rfl hl.1 rfl (lv_room (Nat.le_trans (zrm1 rfl (zrm1 rfl (zrm1 rfl (zrm1 rfl (zrm1 (zcat _) zrm0))))) (Nat.le_of_ble_eq_true rfl))) dX0_decimal_31 ⟨(show cells + 0 ≤ k by omega), (show slots + 0 ≤ n by omega)⟩) (fun r28 M H locs hw1 hZ => ?_) (fun q M H locs ci fs E T9 N9 hw hZ hc1 hM1 hb1 => False.elim hw)
      replace hw := hw1
      clear hw1
      refine W.cs (cells' := cells) (slots' := slots) rfl rfl ?_
      refine z_callU hZ (vx_runI (As := [.ref b27]) (rest := [.ref b26, .int a0, va_rf g25]) hC.fix (w_X25_init hlt hw) (cwI 1 hts (lw_meth q1178) rfl rfl rfl (hts _ q109) (hts _ q1176) (hts _ q1177) rfl dd_X25_init ⟨Nat.le_of_ble_eq_true rfl, Nat.le_of_ble_eq_true rfl⟩) (z_preS hC hZ) rfl rfl hl.1 rfl (lv_room (Nat.le_trans (zrm1 rfl (zrm1 rfl (zrm1 (zcat _) zrm0))) (Nat.le_of_ble_eq_true rfl))) dX0_decimal_34 ⟨(show cells + 0 ≤ k by omega), (show slots + 0 ≤ n by omega)⟩) (fun r31 M H locs hw1 hZ => ?_) (fun q M H locs ci fs E T9 N9 hw hZ hc1 hM1 hb1 => False.elim hw)
      replace hw := hw1
      clear hw1
      refine W.cs (cells' := cells) (slots' := slots) rfl rfl ?_
      obtain ⟨b34, hr0, hw⟩ := hw
      subst hr0
      obtain ⟨n0, f0, hM0, hb0, hi0, hv0, hw⟩ := hw
      refine z_aastO (r := (some b26)) hC hZ hM0 hb0 rfl hv0 hi0 dX0_decimal_37 (fun H locs hZ => ?_)
      generalize zu M _ _ = M at hw hZ
      refine lv_iconst (v := 1) hx hb dX0_decimal_38 (by decide) ?_
      exact z_iret hG hZ (by omega) (by omega) hw dX0_decimal_39
    · replace hw := hw.2 c35
      exact wk_X0_decimal_L14 hG _ _ _ hk hn hZ (lv_sub hl [] rfl) hw
abbrev rm_X0_feed : Room := { frames := 2, cells := 0, slots := 0, locals := 89 }
def wp_X0_feed (D : zD) (post : Int32 → zM → Prop) (o : Nat) (a0 : Int32) (M : zM) : Prop :=
    (wp_X0_in D (fun r1 M => ((¬ r1 = 0 → (zgI M o 0 4 fun g4 => ((¬ g4 = (120 : Int32) → (zgR M o 0 3 fun g5 => (zgI M o 0 4 fun g6 => ((zd g5 fun b7 => zsB D M b7 g6 (a0.toInt8.toInt32) fun M => (zgI M o 0 4 fun g8 => (zp D M o 0 4 (.int (g8 + (1 : Int32))) fun M => (zgI M o 0 4 fun g9 => post g9 M)))))))) ∧ (g4 = (120 : Int32) → post (-3 : Int32) M)))) ∧ (r1 = 0 → post (-1 : Int32) M))) (a0.toInt64) (0 : Int64) (255 : Int64) M)
set_option maxHeartbeats 4000000 in
set_option maxRecDepth 100000 in
theorem w_X0_feed {l : Launch} {D : zD} {post : Int32 → zM → Prop} (hlt : l.stackTraces = false) {o : Nat} {a0 : Int32} {M : zM} (hw : wp_X0_feed D post o a0 M) : zMet l D yX0_feed (ws_ yX0_feed cX0_feed 2 (some .int)) rm_X0_feed 0 0 [.ref o, .int a0] M zI post (fun _ _ => False) := by
  unfold wp_X0_feed at hw
  have hlv : lv_args 0 [.ref o, .int a0] = [(0, .ref o), (1, .int a0)] := (zargs1 rfl (zargs1 rfl rfl))
  refine z_ofW hlt (by decide) (Nat.le_trans (zsl1 rfl (zsl1 rfl (Nat.le_refl 0 : (lg_sl []).length ≤ 0))) (Nat.le_of_ble_eq_true rfl)) hlv ?_
  intro p e s m args below meth c ls hG hZ hl
  have hC := hG.1
  have hx := hC.x
  have hb := hC.b
  have hown := hC.o
  have hts := hC.ts
  have hlt := hG.2.2.2.2.2
  obtain ⟨cells, hce⟩ : ∃ z : Nat, z = 0 := ⟨0, rfl⟩
  obtain ⟨slots, hsl⟩ : ∃ z : Nat, z = 0 := ⟨0, rfl⟩
  refine W.cs (cells' := cells) (slots' := slots) hce.symm hsl.symm ?_
  have hk : cells ≤ 0 := Nat.le_of_eq hce
  have hn : slots ≤ 0 := Nat.le_of_eq hsl
  clear hce hsl
  refine lv_iload_n hx hb dX0_feed_0 rfl (lv_at hl 1 rfl) ?_
  refine lv_i2l hx hb dX0_feed_1 rfl ?_
  refine lv_lconst (v := 0) hx hb dX0_feed_2 (by decide) ?_
  refine lv_ldc2 hx hb hown (hts _ q518) dX0_feed_3 ?_
  refine z_callI hZ (vx_runS (As := [.long (a0.toInt64), .long (0 : Int64), .long (255 : Int64)]) (rest := []) hC.fix (w_X0_in hlt hw) (va_cwS 3 hts (lw_S q434 q435 q67 q436) rfl rfl rfl dd_X0_in ⟨Nat.le_of_ble_eq_true rfl, Nat.le_of_ble_eq_true rfl⟩) (z_preS hC hZ) rfl rfl hl.1 rfl (lv_room (Nat.zero_le _)) dX0_feed_6 ⟨hk, hn⟩) (fun r13 M H locs hw1 hZ => ?_) (fun q M H locs ci fs E T9 N9 hw hZ hc1 hM1 hb1 => False.elim hw)
  replace hw := hw1
  clear hw1
  refine W.cs (cells' := cells) (slots' := slots) rfl rfl ?_
  refine lv_if_ne (tgt := 14) hx hb dX0_feed_9 (by decide) (fun c24 => ?_) (fun c24 => ?_)
  · replace hw := hw.1 c24
    refine lv_aload_n hx hb dX0_feed_14 rfl (lv_at hl 0 rfl) ?_
    obtain ⟨fs0, g16, hM0, hx0, hw⟩ := hw
    refine z_get hC hZ hM0 zc0 4 (by decide) q405 (fun _ h9 => h9) hx0 dX0_feed_15 ?_
    refine lv_bipush (v := 120) hx hb dX0_feed_18 (by decide) ?_
    refine lv_icmp_ne (tgt := 26) hx hb dX0_feed_20 (by decide) (fun c23 => ?_) (fun c23 => ?_)
    · replace hw := hw.1 c23
      refine lv_aload_n hx hb dX0_feed_26 rfl (lv_at hl 0 rfl) ?_
      obtain ⟨fs0, g17, hM0, hx0, hw⟩ := hw
      refine z_get hC hZ hM0 zc0 3 (by decide) q402 (fun _ h9 => h9) hx0 dX0_feed_27 ?_
      refine lv_aload_n hx hb dX0_feed_30 rfl (lv_at hl 0 rfl) ?_
      obtain ⟨fs0, g18, hM0, hx0, hw⟩ := hw
      refine z_get hC hZ hM0 zc0 4 (by decide) q405 (fun _ h9 => h9) hx0 dX0_feed_31 ?_
      refine lv_iload_n hx hb dX0_feed_34 rfl (lv_at hl 1 rfl) ?_
      refine lv_i2b hx hb dX0_feed_35 rfl ?_
      obtain ⟨b19, hr0, hw⟩ := hw
      subst hr0
      obtain ⟨n0, f0, hM0, hb0, hi0, hw⟩ := hw
      refine z_bast hC hZ hM0 hb0 hi0 dX0_feed_36 (fun H locs hZ => ?_)
      generalize zu M _ _ = M at hw hZ
      refine lv_aload_n hx hb dX0_feed_37 rfl (lv_at hl 0 rfl) ?_
      refine lv_dup hx hb dX0_feed_38 rfl ?_
      obtain ⟨fs0, g20, hM0, hx0, hw⟩ := hw
      refine z_get hC hZ hM0 zc0 4 (by decide) q405 (fun _ h9 => h9) hx0 dX0_feed_39 ?_
      refine lv_iconst (v := 1) hx hb dX0_feed_42 (by decide) ?_
      refine lv_iadd hx hb dX0_feed_43 ?_
      obtain ⟨fs0, hM0, hb0, hk0, hw⟩ := hw
      refine z_put hC hZ hM0 hb0 zc0 4 (by decide) q405 (fun _ h9 => h9) (by decide) rfl rfl hk0 dX0_feed_44 (fun H locs hZ => ?_)
      generalize zu M _ _ = M at hw hZ
      refine lv_aload_n hx hb dX0_feed_47 rfl (lv_at hl 0 rfl) ?_
      obtain ⟨fs0, g21, hM0, hx0, hw⟩ := hw
      refine z_get hC hZ hM0 zc0 4 (by decide) q405 (fun _ h9 => h9) hx0 dX0_feed_48 ?_
      exact z_iret hG hZ hk hn hw dX0_feed_51
    · replace hw := hw.2 c23
      refine lv_bipush (v := (-3)) hx hb dX0_feed_23 (by decide) ?_
      exact z_iret hG hZ hk hn hw dX0_feed_25
  · replace hw := hw.2 c24
    refine lv_iconst (v := (-1)) hx hb dX0_feed_12 (by decide) ?_
    exact z_iret hG hZ hk hn hw dX0_feed_13
abbrev rm_X0_forget : Room := { frames := 3, cells := 0, slots := 0, locals := 109 }
def wp_X0_forget (D : zD) (post : Int32 → zM → Prop) (o : Nat) (a0 : Int32) (M : zM) : Prop :=
    (wp_X0_isArgument D (fun r1 M => ((¬ r1 = 0 → ((zis M o [0] ∧ wp_X0_typeOf D (fun r4 M => (zgR M o 0 6 fun g7 => ((zd g7 fun b8 => zsR D M b8 9 a0 none fun M => post r4 M)))) o a0 M))) ∧ (r1 = 0 → post (-1 : Int32) M))) a0 M)
set_option maxHeartbeats 4000000 in
set_option maxRecDepth 100000 in
theorem w_X0_forget {l : Launch} {D : zD} {post : Int32 → zM → Prop} (hlt : l.stackTraces = false) {o : Nat} {a0 : Int32} {M : zM} (hw : wp_X0_forget D post o a0 M) : zMet l D yX0_forget (ws_ yX0_forget cX0_forget 3 (some .int)) rm_X0_forget 0 0 [.ref o, .int a0] M zI post (fun _ _ => False) := by
  unfold wp_X0_forget at hw
  have hlv : lv_args 0 [.ref o, .int a0] = [(0, .ref o), (1, .int a0)] := (zargs1 rfl (zargs1 rfl rfl))
  refine z_ofW hlt (by decide) (Nat.le_trans (zsl1 rfl (zsl1 rfl (Nat.le_refl 0 : (lg_sl []).length ≤ 0))) (Nat.le_of_ble_eq_true rfl)) hlv ?_
  intro p e s m args below meth c ls hG hZ hl
  have hC := hG.1
  have hx := hC.x
  have hb := hC.b
  have hown := hC.o
  have hts := hC.ts
  have hlt := hG.2.2.2.2.2
  obtain ⟨cells, hce⟩ : ∃ z : Nat, z = 0 := ⟨0, rfl⟩
  obtain ⟨slots, hsl⟩ : ∃ z : Nat, z = 0 := ⟨0, rfl⟩
  refine W.cs (cells' := cells) (slots' := slots) hce.symm hsl.symm ?_
  have hk : cells ≤ 0 := Nat.le_of_eq hce
  have hn : slots ≤ 0 := Nat.le_of_eq hsl
  clear hce hsl
  refine lv_iload_n hx hb dX0_forget_0 rfl (lv_at hl 1 rfl) ?_
  refine z_callI hZ (vx_runS (As := [.int a0]) (rest := []) hC.fix (w_X0_isArgument hlt hw) (va_cwS 1 hts (lw_S q1085 q1086 q67 q1087) rfl rfl rfl dd_X0_isArgument ⟨Nat.le_of_ble_eq_true rfl, Nat.le_of_ble_eq_true rfl⟩) (z_preS hC hZ) rfl rfl hl.1 rfl (lv_room (Nat.zero_le _)) dX0_forget_1 ⟨hk, hn⟩) (fun r10 M H locs hw1 hZ => ?_) (fun q M H locs ci fs E T9 N9 hw hZ hc1 hM1 hb1 => False.elim hw)
  replace hw := hw1
  clear hw1
  refine W.cs (cells' := cells) (slots' := slots) rfl rfl ?_
  refine lv_if_ne (tgt := 9) hx hb dX0_forget_4 (by decide) (fun c18 => ?_) (fun c18 => ?_)
  · replace hw := hw.1 c18
    refine lv_aload_n hx hb dX0_forget_9 rfl (lv_at hl 0 rfl) ?_
    refine lv_iload_n hx hb dX0_forget_10 rfl (lv_at hl 1 rfl) ?_
    obtain ⟨⟨ci0, fs0, hci0, hM0⟩, hw⟩ := hw
    obtain rfl : ci0 = 0 := List.mem_singleton.mp hci0
    refine z_callI hZ (vx_runV (As := [.int a0]) (rest := []) hC.fix (w_X0_typeOf hlt hw) (cwV 1 hts (lw_V q1232 q1234 qs23 q67 q1235) rfl rfl rfl ⟨rfl, dd_X0_typeOf⟩ ⟨Nat.le_of_ble_eq_true rfl, Nat.le_of_ble_eq_true rfl⟩) (z_preV hC hZ hM0 zc0) rfl rfl hl.1 rfl (lv_room (Nat.zero_le _)) dX0_forget_11 ⟨hk, hn⟩) (fun r13 M H locs hw1 hZ => ?_) (fun q M H locs ci fs E T9 N9 hw hZ hc1 hM1 hb1 => False.elim hw)
    replace hw := hw1
    clear hw1
    refine W.cs (cells' := cells) (slots' := slots) rfl rfl ?_
    refine lv_istore_n (i := 2) (lv' := [(2, .int r13), (0, .ref o), (1, .int a0)]) hx hb dX0_forget_14 rfl hl (by decide) rfl (fun ls hl1 => ?_)
    replace hl := hl1
    clear hl1
    refine lv_aload_n hx hb dX0_forget_15 rfl (lv_at hl 1 rfl) ?_
    obtain ⟨fs0, g16, hM0, hx0, hw⟩ := hw
    refine z_get hC hZ hM0 zc0 6 (by decide) q407 (fun _ h9 => h9) hx0 dX0_forget_16 ?_
    refine lv_iload_n hx hb dX0_forget_19 rfl (lv_at hl 2 rfl) ?_
    refine z_null hC dX0_forget_20 ?_
    obtain ⟨b17, hr0, hw⟩ := hw
    subst hr0
    obtain ⟨n0, f0, hM0, hb0, hi0, hv0, hw⟩ := hw
    refine z_aastO (r := none) hC hZ hM0 hb0 rfl hv0 hi0 dX0_forget_21 (fun H locs hZ => ?_)
    generalize zu M _ _ = M at hw hZ
    refine lv_iload_n hx hb dX0_forget_22 rfl (lv_at hl 0 rfl) ?_
    exact z_iret hG hZ hk hn hw dX0_forget_23
  · replace hw := hw.2 c18
    refine lv_iconst (v := (-1)) hx hb dX0_forget_7 (by decide) ?_
    exact z_iret hG hZ hk hn hw dX0_forget_8
abbrev rm_X26_init : Room := { frames := 1, cells := 0, slots := 0, locals := 64 }
def wp_X26_init (D : zD) (post : Unit → zM → Prop) (o : Nat) (a0 : Int32) (M : zM) : Prop :=
    (zp D M o 23 0 (.int a0) fun M => post () M)
set_option maxHeartbeats 4000000 in
set_option maxRecDepth 100000 in
theorem w_X26_init {l : Launch} {D : zD} {post : Unit → zM → Prop} (hlt : l.stackTraces = false) {o : Nat} {a0 : Int32} {M : zM} (hw : wp_X26_init D post o a0 M) : zMet l D yX26_init (ws_ yX26_init cX26_init 2 (none)) rm_X26_init 0 0 [.ref o, .int a0] M zU post (fun _ _ => False) := by
  unfold wp_X26_init at hw
  have hlv : lv_args 0 [.ref o, .int a0] = [(0, .ref o), (1, .int a0)] := (zargs1 rfl (zargs1 rfl rfl))
  refine z_ofW hlt (by decide) (Nat.le_trans (zsl1 rfl (zsl1 rfl (Nat.le_refl 0 : (lg_sl []).length ≤ 0))) (Nat.le_of_ble_eq_true rfl)) hlv ?_
  intro p e s m args below meth c ls hG hZ hl
  have hC := hG.1
  have hx := hC.x
  have hb := hC.b
  have hown := hC.o
  have hts := hC.ts
  have hlt := hG.2.2.2.2.2
  obtain ⟨cells, hce⟩ : ∃ z : Nat, z = 0 := ⟨0, rfl⟩
  obtain ⟨slots, hsl⟩ : ∃ z : Nat, z = 0 := ⟨0, rfl⟩
  refine W.cs (cells' := cells) (slots' := slots) hce.symm hsl.symm ?_
  have hk : cells ≤ 0 := Nat.le_of_eq hce
  have hn : slots ≤ 0 := Nat.le_of_eq hsl
  clear hce hsl
  refine lv_aload_n hx hb dX26_init_0 rfl (lv_at hl 0 rfl) ?_
  refine W.objInit hx hb hown (hts _ q1194) (hts _ q124) (hts _ q125) rfl (by rw [hC.ml]; exact hl.1) rfl dX26_init_1 (Nat.le_of_ble_eq_true rfl) (Nat.le_of_ble_eq_true rfl) ?_
  refine W.eq (g2 := F0 m 4 ls []) rfl ?_
  refine lv_aload_n hx hb dX26_init_4 rfl (lv_at hl 0 rfl) ?_
  refine lv_iload_n hx hb dX26_init_5 rfl (lv_at hl 1 rfl) ?_
  obtain ⟨fs0, hM0, hb0, hk0, hw⟩ := hw
  refine z_putF hC hZ hM0 hb0 zc23 0 (by decide) q1195 (fun _ h9 => h9) (by decide) hG.2.2.2.1 rfl rfl rfl hk0 dX26_init_6 (fun H locs hZ => ?_)
  generalize zu M _ _ = M at hw hZ
  exact z_vret hG hZ hk hn hw dX26_init_9
abbrev rm_X0_gender (K N : Nat) : Room := { frames := 3, cells := K, slots := N, locals := 109 }
def wp_X0_gender_L19 (D : zD) (post : Int32 → zM → Prop) (o : Nat) (k : Nat) (n : Nat) (M : zM) : Prop :=
    post (-1 : Int32) M
set_option maxHeartbeats 4000000 in
set_option maxRecDepth 100000 in
theorem wk_X0_gender_L19 {p : Program} {l : Launch} {e : Env} {s : State} {m : MethodId} {args : Array Value} {below : List Frame} {meth : Method} {c : Code} {D : zD} {post : Int32 → zM → Prop} {K N : Nat} {o : Nat} (hG : zGx p l s m args meth c cX0_gender 3 "PluralBranches" D (some .int) "gender" []) : ∀ {H : Heap} {locs : List Loc} {cells slots : Nat} {ls : Array Slot} (k : Nat) (n : Nat) (M : zM), cells + k ≤ K → slots + n ≤ N → zS D M H locs → lv_has ls 3 [] → wp_X0_gender_L19 D post o k n M → W p l e (rm_X0_gender K N) s m args below meth c H locs cells slots (vx_MQ below (zQ D zI post) (zX D (fun _ _ => False)) args s K N (zA D)) (F0 m 19 ls []) := by
  have hC := hG.1
  have hx := hC.x
  have hb := hC.b
  have hown := hC.o
  have hts := hC.ts
  have hlt := hG.2.2.2.2.2
  intro H locs cells slots ls k n M hk hn hZ hl hw
  refine lv_iconst (v := (-1)) hx hb dX0_gender_19 (by decide) ?_
  exact z_iret hG hZ (by omega) (by omega) hw dX0_gender_20
def wp_X0_gender (D : zD) (post : Int32 → zM → Prop) (k : Nat) (n : Nat) (o : Nat) (a0 : Int32) (a1 : Int32) (M : zM) : Prop :=
    (wp_X0_isArgument D (fun r1 M => ((r1 = 0 → wp_X0_gender_L19 D post o k n M) ∧ (¬ r1 = 0 → (wp_X0_in D (fun r4 M => ((¬ r4 = 0 → (zgR M o 0 6 fun g7 => (znew D M 23 1 [.int 0] k n fun b8 M => (wp_X26_init D (fun _ M => ((zd g7 fun b12 => zsR D M b12 9 a0 (some b8) fun M => post (1 : Int32) M))) b8 a1 M)))) ∧ (r4 = 0 → wp_X0_gender_L19 D post o k n M))) (a1.toInt64) (0 : Int64) (2 : Int64) M)))) a0 M)
set_option maxHeartbeats 4000000 in
set_option maxRecDepth 100000 in
theorem w_X0_gender {l : Launch} {D : zD} {post : Int32 → zM → Prop} (hlt : l.stackTraces = false) {k : Nat} {n : Nat} {o : Nat} {a0 : Int32} {a1 : Int32} {M : zM} (hw : wp_X0_gender D post k n o a0 a1 M) : zMet l D yX0_gender (ws_ yX0_gender cX0_gender 3 (some .int)) (rm_X0_gender k n) k n [.ref o, .int a0, .int a1] M zI post (fun _ _ => False) := by
  unfold wp_X0_gender at hw
  have hlv : lv_args 0 [.ref o, .int a0, .int a1] = [(0, .ref o), (1, .int a0), (2, .int a1)] := (zargs1 rfl (zargs1 rfl (zargs1 rfl rfl)))
  refine z_ofW hlt (by decide) (Nat.le_trans (zsl1 rfl (zsl1 rfl (zsl1 rfl (Nat.le_refl 0 : (lg_sl []).length ≤ 0)))) (Nat.le_of_ble_eq_true rfl)) hlv ?_
  intro p e s m args below meth c ls hG hZ hl
  have hC := hG.1
  have hx := hC.x
  have hb := hC.b
  have hown := hC.o
  have hts := hC.ts
  have hlt := hG.2.2.2.2.2
  obtain ⟨cells, hce⟩ : ∃ z : Nat, z = 0 := ⟨0, rfl⟩
  obtain ⟨slots, hsl⟩ : ∃ z : Nat, z = 0 := ⟨0, rfl⟩
  refine W.cs (cells' := cells) (slots' := slots) hce.symm hsl.symm ?_
  have hk : cells + k ≤ k := by omega
  have hn : slots + n ≤ n := by omega
  clear hce hsl
  refine lv_iload_n hx hb dX0_gender_0 rfl (lv_at hl 1 rfl) ?_
  refine z_callI hZ (vx_runS (As := [.int a0]) (rest := []) hC.fix (w_X0_isArgument hlt hw) (va_cwS 1 hts (lw_S q1085 q1086 q67 q1087) rfl rfl rfl dd_X0_isArgument ⟨Nat.le_of_ble_eq_true rfl, Nat.le_of_ble_eq_true rfl⟩) (z_preS hC hZ) rfl rfl hl.1 rfl (lv_room (Nat.zero_le _)) dX0_gender_1 ⟨(show cells + 0 ≤ k by omega), (show slots + 0 ≤ n by omega)⟩) (fun r15 M H locs hw1 hZ => ?_) (fun q M H locs ci fs E T9 N9 hw hZ hc1 hM1 hb1 => False.elim hw)
  replace hw := hw1
  clear hw1
  refine W.cs (cells' := cells) (slots' := slots) rfl rfl ?_
  refine lv_if_eq (tgt := 19) hx hb dX0_gender_4 (by decide) (fun c28 => ?_) (fun c28 => ?_)
  · replace hw := hw.1 c28
    exact wk_X0_gender_L19 hG _ _ _ hk hn hZ (lv_sub hl [] rfl) hw
  · replace hw := hw.2 c28
    refine lv_iload_n hx hb dX0_gender_7 rfl (lv_at hl 2 rfl) ?_
    refine lv_i2l hx hb dX0_gender_8 rfl ?_
    refine lv_lconst (v := 0) hx hb dX0_gender_9 (by decide) ?_
    refine lv_ldc2 hx hb hown (hts _ q1188) dX0_gender_10 ?_
    refine z_callI hZ (vx_runS (As := [.long (a1.toInt64), .long (0 : Int64), .long (2 : Int64)]) (rest := []) hC.fix (w_X0_in hlt hw) (va_cwS 3 hts (lw_S q434 q435 q67 q436) rfl rfl rfl dd_X0_in ⟨Nat.le_of_ble_eq_true rfl, Nat.le_of_ble_eq_true rfl⟩) (z_preS hC hZ) rfl rfl hl.1 rfl (lv_room (Nat.zero_le _)) dX0_gender_13 ⟨(show cells + 0 ≤ k by omega), (show slots + 0 ≤ n by omega)⟩) (fun r18 M H locs hw1 hZ => ?_) (fun q M H locs ci fs E T9 N9 hw hZ hc1 hM1 hb1 => False.elim hw)
    replace hw := hw1
    clear hw1
    refine W.cs (cells' := cells) (slots' := slots) rfl rfl ?_
    refine lv_if_ne (tgt := 21) hx hb dX0_gender_16 (by decide) (fun c27 => ?_) (fun c27 => ?_)
    · replace hw := hw.1 c27
      refine lv_aload_n hx hb dX0_gender_21 rfl (lv_at hl 0 rfl) ?_
      obtain ⟨fs0, g21, hM0, hx0, hw⟩ := hw
      refine z_get hC hZ hM0 zc0 6 (by decide) q407 (fun _ h9 => h9) hx0 dX0_gender_22 ?_
      refine lv_iload_n hx hb dX0_gender_25 rfl (lv_at hl 1 rfl) ?_
      obtain ⟨hk1, hn1, hw⟩ := hw
      refine z_new (fs := [.int 0]) hC hZ zc23 q1189 q1190 q110 (zdefs (N := 1) (ty := tyX26) (fs := [.int 0]) (by decide)) (show cells + 1 ≤ k by omega) (show slots + 1 ≤ n by omega) dX0_gender_26 (fun b22 H hq0 hq1 hZ => ?_)
      replace hw := hw b22 hq0 hq1
      generalize zu M _ _ = M at hw hZ
      have hk : cells + 1 + (k - 1) ≤ k := by omega
      have hn : slots + 1 + (n - 1) ≤ n := by omega
      generalize cells + 1 = cells at hk ⊢
      generalize slots + 1 = slots at hn ⊢
      clear hk1 hn1
      refine lv_dup hx hb dX0_gender_29 rfl ?_
      refine lv_iload_n hx hb dX0_gender_30 rfl (lv_at hl 2 rfl) ?_
      refine z_callU hZ (vx_runI (As := [.int a1]) (rest := [.ref b22, .int a0, va_rf g21]) hC.fix (w_X26_init hlt hw) (cwI 1 hts (lw_meth q1193) rfl rfl rfl (hts _ q110) (hts _ q1191) (hts _ q1192) rfl dd_X26_init ⟨Nat.le_of_ble_eq_true rfl, Nat.le_of_ble_eq_true rfl⟩) (z_preS hC hZ) rfl rfl hl.1 rfl (lv_room (Nat.le_trans (zrm1 rfl (zrm1 rfl (zrm1 (zcat _) zrm0))) (Nat.le_of_ble_eq_true rfl))) dX0_gender_31 ⟨(show cells + 0 ≤ k by omega), (show slots + 0 ≤ n by omega)⟩) (fun r23 M H locs hw1 hZ => ?_) (fun q M H locs ci fs E T9 N9 hw hZ hc1 hM1 hb1 => False.elim hw)
      replace hw := hw1
      clear hw1
      refine W.cs (cells' := cells) (slots' := slots) rfl rfl ?_
      obtain ⟨b26, hr0, hw⟩ := hw
      subst hr0
      obtain ⟨n0, f0, hM0, hb0, hi0, hv0, hw⟩ := hw
      refine z_aastO (r := (some b22)) hC hZ hM0 hb0 rfl hv0 hi0 dX0_gender_34 (fun H locs hZ => ?_)
      generalize zu M _ _ = M at hw hZ
      refine lv_iconst (v := 1) hx hb dX0_gender_35 (by decide) ?_
      exact z_iret hG hZ (by omega) (by omega) hw dX0_gender_36
    · replace hw := hw.2 c27
      exact wk_X0_gender_L19 hG _ _ _ hk hn hZ (lv_sub hl [] rfl) hw
abbrev rm_X0_grow (K N : Nat) : Room := { frames := 13, cells := K, slots := N, locals := 223 }
def wp_X0_grow_L16 (D : zD) (post : Int64 → zM → Prop) (xp : Nat → zM → Prop) (o : Nat) (k : Nat) (n : Nat) (M : zM) : Prop :=
    post (-9223372036854775808 : Int64) M
set_option maxHeartbeats 4000000 in
set_option maxRecDepth 100000 in
theorem wk_X0_grow_L16 {p : Program} {l : Launch} {e : Env} {s : State} {m : MethodId} {args : Array Value} {below : List Frame} {meth : Method} {c : Code} {D : zD} {post : Int64 → zM → Prop} {xp : Nat → zM → Prop} {K N : Nat} {o : Nat} (hG : zGx p l s m args meth c cX0_grow 5 "PluralBranches" D (some .long) "grow" (tableOf [(33, 72, 73, 294)])) : ∀ {H : Heap} {locs : List Loc} {cells slots : Nat} {ls : Array Slot} (k : Nat) (n : Nat) (M : zM), cells + k ≤ K → slots + n ≤ N → zS D M H locs → lv_has ls 5 [] → wp_X0_grow_L16 D post xp o k n M → W p l e (rm_X0_grow K N) s m args below meth c H locs cells slots (vx_MQ below (zQ D zL post) (zX D xp) args s K N (zA D)) (F0 m 16 ls []) := by
  have hC := hG.1
  have hx := hC.x
  have hb := hC.b
  have hown := hC.o
  have hts := hC.ts
  have hlt := hG.2.2.2.2.2
  intro H locs cells slots ls k n M hk hn hZ hl hw
  refine lv_ldc2 hx hb hown (hts _ q442) dX0_grow_16 ?_
  exact z_lret hG hZ (by omega) (by omega) hw dX0_grow_19
def wp_X0_grow_L73 (D : zD) (post : Int64 → zM → Prop) (xp : Nat → zM → Prop) (o : Nat) (k : Nat) (n : Nat) (y0 : Option Nat) (M : zM) : Prop :=
    post (-9223372036854775808 : Int64) M
set_option maxHeartbeats 4000000 in
set_option maxRecDepth 100000 in
theorem wk_X0_grow_L73 {p : Program} {l : Launch} {e : Env} {s : State} {m : MethodId} {args : Array Value} {below : List Frame} {meth : Method} {c : Code} {D : zD} {post : Int64 → zM → Prop} {xp : Nat → zM → Prop} {K N : Nat} {o : Nat} (hG : zGx p l s m args meth c cX0_grow 5 "PluralBranches" D (some .long) "grow" (tableOf [(33, 72, 73, 294)])) : ∀ {H : Heap} {locs : List Loc} {cells slots : Nat} {ls : Array Slot} (k : Nat) (n : Nat) (y0 : Option Nat) (M : zM), cells + k ≤ K → slots + n ≤ N → zS D M H locs → lv_has ls 5 [] → wp_X0_grow_L73 D post xp o k n y0 M → W p l e (rm_X0_grow K N) s m args below meth c H locs cells slots (vx_MQ below (zQ D zL post) (zX D xp) args s K N (zA D)) (F0 m 73 ls [va_rf y0]) := by
  have hC := hG.1
  have hx := hC.x
  have hb := hC.b
  have hown := hC.o
  have hts := hC.ts
  have hlt := hG.2.2.2.2.2
  intro H locs cells slots ls k n y0 M hk hn hZ hl hw
  refine z_astore (i := 4) (lv' := [(4, va_rf y0)]) hC dX0_grow_73 hl (by decide) rfl (fun ls hl1 => ?_)
  replace hl := hl1
  clear hl1
  refine lv_ldc2 hx hb hown (hts _ q442) dX0_grow_75 ?_
  exact z_lret hG hZ (by omega) (by omega) hw dX0_grow_78
def wp_X0_grow_L32 (D : zD) (post : Int64 → zM → Prop) (xp : Nat → zM → Prop) (o : Nat) (k : Nat) (n : Nat) (x1 : Int32) (x2 : Int32) (y0 : Option Nat) (M : zM) : Prop :=
    ((zd y0 fun b1 => zgI M b1 1 0 fun g2 => ((∃ k4 n5, k4 ≤ k ∧ n5 ≤ n ∧ wp_J0_multiplyExact_2 D (fun r3 M => (zgR M o 0 6 fun g6 => (znew D M 22 1 [.null] (k - k4) (n - n5) fun b7 M => (znew D M 1 6 [.int 0, .int 0, .long 0, .long 0, .int 0, .long 0] ((k - k4) - 1) ((n - n5) - 1) fun b8 M => (zgI M b1 1 1 fun g9 => (wp_X1_init_2 D (fun _ M => (wp_X25_init D (fun _ M => ((zd g6 fun b16 => zsR D M b16 9 x1 (some b7) fun M => post (r3.toInt64) M))) b7 (some b8) M)) b8 r3 g9 M)))))) (fun q M => (∃ fs, M q = some (.inr (28, fs))) ∧ wp_X0_grow_L73 D post xp o (k - k4) (n - n5) (some q) M) k4 n5 g2 x2 M))))
set_option maxHeartbeats 4000000 in
set_option maxRecDepth 100000 in
theorem wk_X0_grow_L32 {p : Program} {l : Launch} {e : Env} {s : State} {m : MethodId} {args : Array Value} {below : List Frame} {meth : Method} {c : Code} {D : zD} {post : Int64 → zM → Prop} {xp : Nat → zM → Prop} {K N : Nat} {o : Nat} (hG : zGx p l s m args meth c cX0_grow 5 "PluralBranches" D (some .long) "grow" (tableOf [(33, 72, 73, 294)])) : ∀ {H : Heap} {locs : List Loc} {cells slots : Nat} {ls : Array Slot} (k : Nat) (n : Nat) (x1 : Int32) (x2 : Int32) (y0 : Option Nat) (M : zM), cells + k ≤ K → slots + n ≤ N → zS D M H locs → lv_has ls 5 [(0, .ref o), (1, .int x1), (2, .int x2)] → wp_X0_grow_L32 D post xp o k n x1 x2 y0 M → W p l e (rm_X0_grow K N) s m args below meth c H locs cells slots (vx_MQ below (zQ D zL post) (zX D xp) args s K N (zA D)) (F0 m 32 ls [va_rf y0]) := by
  have hC := hG.1
  have hx := hC.x
  have hb := hC.b
  have hown := hC.o
  have hts := hC.ts
  have hlt := hG.2.2.2.2.2
  intro H locs cells slots ls k n x1 x2 y0 M hk hn hZ hl hw
  refine z_astore_n (i := 3) (lv' := [(3, va_rf y0), (0, .ref o), (1, .int x1), (2, .int x2)]) hC dX0_grow_32 rfl hl (by decide) rfl (fun ls hl1 => ?_)
  replace hl := hl1
  clear hl1
  refine z_aload_n hC dX0_grow_33 rfl (lv_at hl 0 rfl) ?_
  obtain ⟨b17, hr0, hw⟩ := hw
  subst hr0
  obtain ⟨fs0, g18, hM0, hx0, hw⟩ := hw
  refine z_getN hC hZ hM0 zc1 0 (by decide) q152 (fun _ h9 => h9) hx0 dX0_grow_34 ?_
  refine lv_iload_n hx hb dX0_grow_37 rfl (lv_at hl 3 rfl) ?_
  obtain ⟨k20, n21, hk1, hn1, hw⟩ := hw
  refine z_callI hZ (vx_runS (As := [.int g18, .int x2]) (rest := []) hC.fix (w_J0_multiplyExact_2 hlt hw) (va_cwS 2 hts (lw_S q1358 q1359 q69 q1360) rfl rfl rfl dd_J0_multiplyExact_2 ⟨Nat.le_of_ble_eq_true rfl, Nat.le_of_ble_eq_true rfl⟩) (z_preS hC hZ) rfl rfl hl.1 rfl (lv_room (Nat.zero_le _)) dX0_grow_38 ⟨(show cells + k20 ≤ K by omega), (show slots + n21 ≤ N by omega)⟩) (fun r19 M H locs hw1 hZ => ?_) (fun q M H locs ci fs E T9 N9 hw1 hZ hc1 hM1 hb1 => ?_)
  · replace hw := hw1
    clear hw1
    have hk : cells + k20 + (k - k20) ≤ K := by omega
    have hn : slots + n21 + (n - n21) ≤ N := by omega
    generalize cells + k20 = cells at hk ⊢
    generalize slots + n21 = slots at hn ⊢
    clear hk1 hn1
    refine lv_istore (i := 4) (lv' := [(4, .int r19), (3, .ref b17), (0, .ref o), (1, .int x1), (2, .int x2)]) hx hb dX0_grow_41 hl (by decide) rfl (fun ls hl1 => ?_)
    replace hl := hl1
    clear hl1
    refine lv_aload_n hx hb dX0_grow_43 rfl (lv_at hl 2 rfl) ?_
    obtain ⟨fs0, g22, hM0, hx0, hw⟩ := hw
    refine z_get hC hZ hM0 zc0 6 (by decide) q407 (fun _ h9 => h9) hx0 dX0_grow_44 ?_
    refine lv_iload_n hx hb dX0_grow_47 rfl (lv_at hl 3 rfl) ?_
    obtain ⟨hk1, hn1, hw⟩ := hw
    refine z_new (fs := [.null]) hC hZ zc22 q1174 q1175 q109 (zdefs (N := 1) (ty := tyX25) (fs := [.null]) (by decide)) (show cells + 1 ≤ K by omega) (show slots + 1 ≤ N by omega) dX0_grow_48 (fun b23 H hq0 hq1 hZ => ?_)
    replace hw := hw b23 hq0 hq1
    generalize zu M _ _ = M at hw hZ
    have hk : cells + 1 + ((k - k20) - 1) ≤ K := by omega
    have hn : slots + 1 + ((n - n21) - 1) ≤ N := by omega
    generalize cells + 1 = cells at hk ⊢
    generalize slots + 1 = slots at hn ⊢
    clear hk1 hn1
    refine lv_dup hx hb dX0_grow_51 rfl ?_
    obtain ⟨hk1, hn1, hw⟩ := hw
    refine z_new (fs := [.int 0, .int 0, .long 0, .long 0, .int 0, .long 0]) hC hZ zc1 q128 q130 q68 (zdefs (N := 6) (ty := tyX1) (fs := [.int 0, .int 0, .long 0, .long 0, .int 0, .long 0]) (by decide)) (show cells + 1 ≤ K by omega) (show slots + 6 ≤ N by omega) dX0_grow_52 (fun b24 H hq0 hq1 hZ => ?_)
    replace hw := hw b24 hq0 hq1
    generalize zu M _ _ = M at hw hZ
    have hk : cells + 1 + (((k - k20) - 1) - 1) ≤ K := by omega
    have hn : slots + 6 + (((n - n21) - 1) - 6) ≤ N := by omega
    generalize cells + 1 = cells at hk ⊢
    generalize slots + 6 = slots at hn ⊢
    clear hk1 hn1
    refine lv_dup hx hb dX0_grow_55 rfl ?_
    refine lv_iload hx hb dX0_grow_56 (lv_at hl 0 rfl) ?_
    refine lv_aload_n hx hb dX0_grow_58 rfl (lv_at hl 1 rfl) ?_
    obtain ⟨fs0, g25, hM0, hx0, hw⟩ := hw
    refine z_getN hC hZ hM0 zc1 1 (by decide) q156 (fun _ h9 => h9) hx0 dX0_grow_59 ?_
    refine z_callU hZ (vx_runI (As := [.int r19, .int g25]) (rest := [.ref b24, .ref b23, .ref b23, .int x1, va_rf g22]) hC.fix (w_X1_init_2 hlt hw) (cwI 2 hts (lw_meth q136) rfl rfl rfl (hts _ q68) (hts _ q176) (hts _ q135) rfl dd_X1_init_2 ⟨Nat.le_of_ble_eq_true rfl, Nat.le_of_ble_eq_true rfl⟩) (z_preS hC hZ) rfl rfl hl.1 rfl (lv_room (Nat.le_trans (zrm1 rfl (zrm1 rfl (zrm1 rfl (zrm1 rfl (zrm1 (zcat _) zrm0))))) (Nat.le_of_ble_eq_true rfl))) dX0_grow_62 ⟨(show cells + 0 ≤ K by omega), (show slots + 0 ≤ N by omega)⟩) (fun r26 M H locs hw1 hZ => ?_) (fun q M H locs ci fs E T9 N9 hw hZ hc1 hM1 hb1 => False.elim hw)
    replace hw := hw1
    clear hw1
    refine W.cs (cells' := cells) (slots' := slots) rfl rfl ?_
    refine z_callU hZ (vx_runI (As := [.ref b24]) (rest := [.ref b23, .int x1, va_rf g22]) hC.fix (w_X25_init hlt hw) (cwI 1 hts (lw_meth q1178) rfl rfl rfl (hts _ q109) (hts _ q1176) (hts _ q1177) rfl dd_X25_init ⟨Nat.le_of_ble_eq_true rfl, Nat.le_of_ble_eq_true rfl⟩) (z_preS hC hZ) rfl rfl hl.1 rfl (lv_room (Nat.le_trans (zrm1 rfl (zrm1 rfl (zrm1 (zcat _) zrm0))) (Nat.le_of_ble_eq_true rfl))) dX0_grow_65 ⟨(show cells + 0 ≤ K by omega), (show slots + 0 ≤ N by omega)⟩) (fun r29 M H locs hw1 hZ => ?_) (fun q M H locs ci fs E T9 N9 hw hZ hc1 hM1 hb1 => False.elim hw)
    replace hw := hw1
    clear hw1
    refine W.cs (cells' := cells) (slots' := slots) rfl rfl ?_
    obtain ⟨b32, hr0, hw⟩ := hw
    subst hr0
    obtain ⟨n0, f0, hM0, hb0, hi0, hv0, hw⟩ := hw
    refine z_aastO (r := (some b23)) hC hZ hM0 hb0 rfl hv0 hi0 dX0_grow_68 (fun H locs hZ => ?_)
    generalize zu M _ _ = M at hw hZ
    refine lv_iload hx hb dX0_grow_69 (lv_at hl 0 rfl) ?_
    refine lv_i2l hx hb dX0_grow_71 rfl ?_
    exact z_lret hG hZ (by omega) (by omega) hw dX0_grow_72
  · replace hw := hw1
    clear hw1
    have hk : cells + k20 + (k - k20) ≤ K := by omega
    have hn : slots + n21 + (n - n21) ≤ N := by omega
    generalize cells + k20 = cells at hk ⊢
    generalize slots + n21 = slots at hn ⊢
    clear hk1 hn1
    obtain ⟨⟨fs9, hM9⟩, hw⟩ := hw
    obtain ⟨rfl, rfl⟩ : ci = 28 ∧ fs = fs9 := by rw [hM9] at hM1; cases hM1; exact ⟨rfl, rfl⟩
    refine z_catch hG hZ hM1 hb1 zc28.1 (tableOf []) ⟨33, 72, 73, 294⟩ (tableOf []) rfl (by decide) (by decide) (by decide) q1289 q1309 ?_
    exact wk_X0_grow_L73 hG _ _ _ _ hk hn hZ (lv_sub hl [] rfl) hw
def wp_X0_grow (D : zD) (post : Int64 → zM → Prop) (xp : Nat → zM → Prop) (k : Nat) (n : Nat) (o : Nat) (a0 : Int32) (a1 : Int32) (M : zM) : Prop :=
    (wp_X0_isArgument D (fun r33 M => ((r33 = 0 → wp_X0_grow_L16 D post xp o k n M) ∧ (¬ r33 = 0 → ((zis M o [0] ∧ wp_X0_typeOf D (fun r36 M => ((r36 = (1 : Int32) → (zgR M o 0 6 fun g39 => ((zd g39 fun b40 => zaR M b40 9 a0 fun v41 => ((zd v41 fun b42 => ((zis M b42 [22] ∧ wp_X25_decimal D (fun r43 M => wp_X0_grow_L32 D post xp o k n a0 a1 r43 M) b42 a0 M) ∨ (zis M b42 [23, 24] ∧ (∃ k47 n48, k47 ≤ k ∧ n48 ≤ n ∧ wp_X29_decimal D (fun r46 M => wp_X0_grow_L32 D post xp o (k - k47) (n - n48) a0 a1 r46 M) xp k47 n48 b42 a0 M))))))))) ∧ (¬ r36 = (1 : Int32) → wp_X0_grow_L16 D post xp o k n M))) o a0 M))))) a0 M)
set_option maxHeartbeats 4000000 in
set_option maxRecDepth 100000 in
theorem w_X0_grow {l : Launch} {D : zD} {post : Int64 → zM → Prop} {xp : Nat → zM → Prop} (hlt : l.stackTraces = false) {k : Nat} {n : Nat} {o : Nat} {a0 : Int32} {a1 : Int32} {M : zM} (hw : wp_X0_grow D post xp k n o a0 a1 M) : zMet l D yX0_grow (wsW_ yX0_grow cX0_grow 5 (some .long) [(33, 72, 73, 294)]) (rm_X0_grow k n) k n [.ref o, .int a0, .int a1] M zL post xp := by
  unfold wp_X0_grow at hw
  have hlv : lv_args 0 [.ref o, .int a0, .int a1] = [(0, .ref o), (1, .int a0), (2, .int a1)] := (zargs1 rfl (zargs1 rfl (zargs1 rfl rfl)))
  refine z_ofWH hlt (by decide) (Nat.le_trans (zsl1 rfl (zsl1 rfl (zsl1 rfl (Nat.le_refl 0 : (lg_sl []).length ≤ 0)))) (Nat.le_of_ble_eq_true rfl)) hlv ?_
  intro p e s m args below meth c ls hG hZ hl
  have hC := hG.1
  have hx := hC.x
  have hb := hC.b
  have hown := hC.o
  have hts := hC.ts
  have hlt := hG.2.2.2.2.2
  obtain ⟨cells, hce⟩ : ∃ z : Nat, z = 0 := ⟨0, rfl⟩
  obtain ⟨slots, hsl⟩ : ∃ z : Nat, z = 0 := ⟨0, rfl⟩
  refine W.cs (cells' := cells) (slots' := slots) hce.symm hsl.symm ?_
  have hk : cells + k ≤ k := by omega
  have hn : slots + n ≤ n := by omega
  clear hce hsl
  refine lv_iload_n hx hb dX0_grow_0 rfl (lv_at hl 1 rfl) ?_
  refine z_callI hZ (vx_runS (As := [.int a0]) (rest := []) hC.fix (w_X0_isArgument hlt hw) (va_cwS 1 hts (lw_S q1085 q1086 q67 q1087) rfl rfl rfl dd_X0_isArgument ⟨Nat.le_of_ble_eq_true rfl, Nat.le_of_ble_eq_true rfl⟩) (z_preS hC hZ) rfl rfl hl.1 rfl (lv_room (Nat.zero_le _)) dX0_grow_1 ⟨(show cells + 0 ≤ k by omega), (show slots + 0 ≤ n by omega)⟩) (fun r51 M H locs hw1 hZ => ?_) (fun q M H locs ci fs E T9 N9 hw hZ hc1 hM1 hb1 => False.elim hw)
  replace hw := hw1
  clear hw1
  refine W.cs (cells' := cells) (slots' := slots) rfl rfl ?_
  refine lv_if_eq (tgt := 16) hx hb dX0_grow_4 (by decide) (fun c68 => ?_) (fun c68 => ?_)
  · replace hw := hw.1 c68
    exact wk_X0_grow_L16 hG _ _ _ hk hn hZ (lv_sub hl [] rfl) hw
  · replace hw := hw.2 c68
    refine lv_aload_n hx hb dX0_grow_7 rfl (lv_at hl 0 rfl) ?_
    refine lv_iload_n hx hb dX0_grow_8 rfl (lv_at hl 1 rfl) ?_
    obtain ⟨⟨ci0, fs0, hci0, hM0⟩, hw⟩ := hw
    obtain rfl : ci0 = 0 := List.mem_singleton.mp hci0
    refine z_callI hZ (vx_runV (As := [.int a0]) (rest := []) hC.fix (w_X0_typeOf hlt hw) (cwV 1 hts (lw_V q1232 q1234 qs23 q67 q1235) rfl rfl rfl ⟨rfl, dd_X0_typeOf⟩ ⟨Nat.le_of_ble_eq_true rfl, Nat.le_of_ble_eq_true rfl⟩) (z_preV hC hZ hM0 zc0) rfl rfl hl.1 rfl (lv_room (Nat.zero_le _)) dX0_grow_9 ⟨(show cells + 0 ≤ k by omega), (show slots + 0 ≤ n by omega)⟩) (fun r54 M H locs hw1 hZ => ?_) (fun q M H locs ci fs E T9 N9 hw hZ hc1 hM1 hb1 => False.elim hw)
    replace hw := hw1
    clear hw1
    refine W.cs (cells' := cells) (slots' := slots) rfl rfl ?_
    refine lv_iconst (v := 1) hx hb dX0_grow_12 (by decide) ?_
    refine lv_icmp_eq (tgt := 20) hx hb dX0_grow_13 (by decide) (fun c67 => ?_) (fun c67 => ?_)
    · replace hw := hw.1 c67
      refine lv_aload_n hx hb dX0_grow_20 rfl (lv_at hl 0 rfl) ?_
      obtain ⟨fs0, g57, hM0, hx0, hw⟩ := hw
      refine z_get hC hZ hM0 zc0 6 (by decide) q407 (fun _ h9 => h9) hx0 dX0_grow_21 ?_
      refine lv_iload_n hx hb dX0_grow_24 rfl (lv_at hl 1 rfl) ?_
      obtain ⟨b58, hr0, hw⟩ := hw
      subst hr0
      obtain ⟨n0, f0, v59, hM0, hi0, hr0, hw⟩ := hw
      refine z_aald hC hZ hM0 (by decide) rfl hi0 hr0 dX0_grow_25 ?_
      refine lv_iload_n hx hb dX0_grow_26 rfl (lv_at hl 1 rfl) ?_
      obtain ⟨b60, hr0, hw⟩ := hw
      subst hr0
      rcases hw with hw | hw
      · obtain ⟨⟨ci0, fs0, hci0, hM0⟩, hw⟩ := hw
        obtain ⟨C0, T0, N0, ty0, hc0, hsel0, hf0⟩ : ∃ (C0 : String) (T0 : u_T) (N0 : Nat) (ty0 : Nat → FieldType), zCls ci0 C0 T0 N0 ty0 ∧ Cond.selects C0 ⟨"PluralBranches$Thing", "decimal", "(I)LPluralBranches$Decimal;"⟩ yX25_decimal ∈ lw_all ∧ (C0, ⟨"PluralBranches$Thing", "decimal", "(I)LPluralBranches$Decimal;"⟩, yX25_decimal) ∈ zFs := (zal ⟨_, _, _, _, zc22, q1327, List.mem_of_getElem? (i := 8) rfl⟩ (za0) : ∀ ci ∈ [22], ∃ (C0 : String) (T0 : u_T) (N0 : Nat) (ty0 : Nat → FieldType), zCls ci C0 T0 N0 ty0 ∧ Cond.selects C0 ⟨"PluralBranches$Thing", "decimal", "(I)LPluralBranches$Decimal;"⟩ yX25_decimal ∈ lw_all ∧ (C0, ⟨"PluralBranches$Thing", "decimal", "(I)LPluralBranches$Decimal;"⟩, yX25_decimal) ∈ zFs) ci0 hci0
        refine z_callR5 hZ (vx_runF (As := [.int a0]) (rest := []) (hC.vK.1 _ _ hc0.1).2 hC.fix (w_X25_decimal hlt hw) (va_cwF 1 hts (lw_app (zal q1317 (zal hsel0 (zal q1329 (zal q109 za0)))) (lw_meth q1331)) rfl rfl rfl (hC.K.2.2.2.1 _ hf0) (by decide +kernel) ⟨Nat.le_of_ble_eq_true rfl, Nat.le_of_ble_eq_true rfl⟩) (z_preV hC hZ hM0 hc0) rfl rfl hl.1 rfl (lv_room (Nat.zero_le _)) dX0_grow_27 ⟨(show cells + 0 ≤ k by omega), (show slots + 0 ≤ n by omega)⟩) (fun r61 M H locs hw1 hZ => ?_) (fun q M H locs ci fs E T9 N9 hw hZ hc1 hM1 hb1 => False.elim hw)
        replace hw := hw1
        clear hw1
        refine W.cs (cells' := cells) (slots' := slots) rfl rfl ?_
        exact wk_X0_grow_L32 hG _ _ _ _ _ _ hk hn hZ (lv_sub hl [0, 1, 2] rfl) hw
      · obtain ⟨⟨ci0, fs0, hci0, hM0⟩, hw⟩ := hw
        obtain ⟨k65, n66, hk1, hn1, hw⟩ := hw
        obtain ⟨C0, T0, N0, ty0, hc0, hin0⟩ : ∃ (C0 : String) (T0 : u_T) (N0 : Nat) (ty0 : Nat → FieldType), zCls ci0 C0 T0 N0 ty0 ∧ C0 ∈ ["PluralBranches$Gendered", "PluralBranches$Listed"] := (zal ⟨_, _, _, _, zc23, by decide⟩ (zal ⟨_, _, _, _, zc24, by decide⟩ (za0)) : ∀ ci ∈ [23, 24], ∃ (C0 : String) (T0 : u_T) (N0 : Nat) (ty0 : Nat → FieldType), zCls ci C0 T0 N0 ty0 ∧ C0 ∈ ["PluralBranches$Gendered", "PluralBranches$Listed"]) ci0 hci0
        refine z_callR5 hZ (z_runDef (As := [.int a0]) (rest := []) hC hin0 (w_X29_decimal hlt hw) (hC.vK.1 _ _ hc0.1).2 q1317 ⟨Nat.le_of_ble_eq_true rfl, Nat.le_of_ble_eq_true rfl⟩ q1321 q2266 (lw_meth q1323) (z_preV hC hZ hM0 hc0) rfl rfl rfl rfl hl.1 rfl (lv_room (Nat.zero_le _)) dX0_grow_27 ⟨(show cells + k65 ≤ k by omega), (show slots + n66 ≤ n by omega)⟩) (fun r64 M H locs hw1 hZ => ?_) (fun q M H locs ci fs E T9 N9 hw1 hZ hc1 hM1 hb1 => ?_)
        · replace hw := hw1
          clear hw1
          have hk : cells + k65 + (k - k65) ≤ k := by omega
          have hn : slots + n66 + (n - n66) ≤ n := by omega
          generalize cells + k65 = cells at hk ⊢
          generalize slots + n66 = slots at hn ⊢
          clear hk1 hn1
          exact wk_X0_grow_L32 hG _ _ _ _ _ _ hk hn hZ (lv_sub hl [0, 1, 2] rfl) hw
        · replace hw := hw1
          clear hw1
          exact z_out hG hZ hM1 hb1 hc1 (by decide) (by omega) (by omega) hw
    · replace hw := hw.2 c67
      exact wk_X0_grow_L16 hG _ _ _ hk hn hZ (lv_sub hl [] rfl) hw
abbrev rm_X0_has : Room := { frames := 1, cells := 0, slots := 0, locals := 64 }
def wp_X0_has_L14 (D : zD) (post : Int32 → zM → Prop) (y0 : Int32) (M : zM) : Prop :=
    (narrow .boolean (.int y0) = .int y0 ∧ post y0 M)
set_option maxHeartbeats 4000000 in
set_option maxRecDepth 100000 in
theorem wk_X0_has_L14 {p : Program} {l : Launch} {e : Env} {s : State} {m : MethodId} {args : Array Value} {below : List Frame} {meth : Method} {c : Code} {D : zD} {post : Int32 → zM → Prop} (hG : zGx p l s m args meth c cX0_has 2 "PluralBranches" D (some .boolean) "has" []) : ∀ {H : Heap} {locs : List Loc} {cells slots : Nat} {ls : Array Slot} (y0 : Int32) (M : zM), cells ≤ 0 → slots ≤ 0 → zS D M H locs → lv_has ls 2 [] → wp_X0_has_L14 D post y0 M → W p l e rm_X0_has s m args below meth c H locs cells slots (vx_MQ below (zQ D zI post) (zX D (fun _ _ => False)) args s 0 0 (zA D)) (F0 m 14 ls [.int y0]) := by
  have hC := hG.1
  have hx := hC.x
  have hb := hC.b
  have hown := hC.o
  have hts := hC.ts
  have hlt := hG.2.2.2.2.2
  intro H locs cells slots ls y0 M hk hn hZ hl hw
  exact z_zret hG hZ hk hn hw.1 hw.2 dX0_has_14
def wp_X0_has (D : zD) (post : Int32 → zM → Prop) (a0 : Int32) (a1 : Int32) (M : zM) : Prop :=
    ((¬ ((a0 >>> (a1 &&& 31)) &&& (1 : Int32)) = (1 : Int32) → wp_X0_has_L14 D post (0 : Int32) M) ∧ (((a0 >>> (a1 &&& 31)) &&& (1 : Int32)) = (1 : Int32) → wp_X0_has_L14 D post (1 : Int32) M))
set_option maxHeartbeats 4000000 in
set_option maxRecDepth 100000 in
theorem w_X0_has {l : Launch} {D : zD} {post : Int32 → zM → Prop} (hlt : l.stackTraces = false) {a0 : Int32} {a1 : Int32} {M : zM} (hw : wp_X0_has D post a0 a1 M) : zMet l D yX0_has (ws_ yX0_has cX0_has 2 (some .boolean)) rm_X0_has 0 0 [.int a0, .int a1] M zI post (fun _ _ => False) := by
  unfold wp_X0_has at hw
  have hlv : lv_args 0 [.int a0, .int a1] = [(0, .int a0), (1, .int a1)] := (zargs1 rfl (zargs1 rfl rfl))
  refine z_ofW hlt (by decide) (Nat.le_trans (zsl1 rfl (zsl1 rfl (Nat.le_refl 0 : (lg_sl []).length ≤ 0))) (Nat.le_of_ble_eq_true rfl)) hlv ?_
  intro p e s m args below meth c ls hG hZ hl
  have hC := hG.1
  have hx := hC.x
  have hb := hC.b
  have hown := hC.o
  have hts := hC.ts
  have hlt := hG.2.2.2.2.2
  obtain ⟨cells, hce⟩ : ∃ z : Nat, z = 0 := ⟨0, rfl⟩
  obtain ⟨slots, hsl⟩ : ∃ z : Nat, z = 0 := ⟨0, rfl⟩
  refine W.cs (cells' := cells) (slots' := slots) hce.symm hsl.symm ?_
  have hk : cells ≤ 0 := Nat.le_of_eq hce
  have hn : slots ≤ 0 := Nat.le_of_eq hsl
  clear hce hsl
  refine lv_iload_n hx hb dX0_has_0 rfl (lv_at hl 0 rfl) ?_
  refine lv_iload_n hx hb dX0_has_1 rfl (lv_at hl 1 rfl) ?_
  refine lv_ishr hx hb dX0_has_2 ?_
  refine lv_iconst (v := 1) hx hb dX0_has_3 (by decide) ?_
  refine lv_iand hx hb dX0_has_4 ?_
  refine lv_iconst (v := 1) hx hb dX0_has_5 (by decide) ?_
  refine lv_icmp_ne (tgt := 13) hx hb dX0_has_6 (by decide) (fun c2 => ?_) (fun c2 => ?_)
  · replace hw := hw.1 c2
    refine lv_iconst (v := 0) hx hb dX0_has_13 (by decide) ?_
    exact wk_X0_has_L14 hG _ _ hk hn hZ (lv_sub hl [] rfl) hw
  · replace hw := hw.2 c2
    refine lv_iconst (v := 1) hx hb dX0_has_9 (by decide) ?_
    refine lv_goto (tgt := 14) hx hb dX0_has_10 (by decide) ?_
    exact wk_X0_has_L14 hG _ _ hk hn hZ (lv_sub hl [] rfl) hw
abbrev rm_X25_held : Room := { frames := 1, cells := 0, slots := 0, locals := 64 }
def wp_X25_held_L35 (D : zD) (post : Int64 → zM → Prop) (o : Nat) (y0 : Int64) (M : zM) : Prop :=
    post y0 M
set_option maxHeartbeats 4000000 in
set_option maxRecDepth 100000 in
theorem wk_X25_held_L35 {p : Program} {l : Launch} {e : Env} {s : State} {m : MethodId} {args : Array Value} {below : List Frame} {meth : Method} {c : Code} {D : zD} {post : Int64 → zM → Prop} {o : Nat} (hG : zGx p l s m args meth c cX25_held 2 "PluralBranches$Numbered" D (some .long) "held" []) : ∀ {H : Heap} {locs : List Loc} {cells slots : Nat} {ls : Array Slot} (y0 : Int64) (M : zM), cells ≤ 0 → slots ≤ 0 → zS D M H locs → lv_has ls 2 [] → wp_X25_held_L35 D post o y0 M → W p l e rm_X25_held s m args below meth c H locs cells slots (vx_MQ below (zQ D zL post) (zX D (fun _ _ => False)) args s 0 0 (zA D)) (F0 m 35 ls [.long y0]) := by
  have hC := hG.1
  have hx := hC.x
  have hb := hC.b
  have hown := hC.o
  have hts := hC.ts
  have hlt := hG.2.2.2.2.2
  intro H locs cells slots ls y0 M hk hn hZ hl hw
  exact z_lret hG hZ hk hn hw dX25_held_35
def wp_X25_held (D : zD) (post : Int64 → zM → Prop) (o : Nat) (a0 : Int32) (M : zM) : Prop :=
    ((¬ a0 = (1 : Int32) → ((¬ a0 = (2 : Int32) → wp_X25_held_L35 D post o (-9223372036854775808 : Int64) M) ∧ (a0 = (2 : Int32) → (zgR M o 22 0 fun g1 => ((zd g1 fun b2 => zgI M b2 1 1 fun g3 => wp_X25_held_L35 D post o (g3.toInt64) M)))))) ∧ (a0 = (1 : Int32) → (zgR M o 22 0 fun g5 => ((zd g5 fun b6 => zgI M b6 1 0 fun g7 => wp_X25_held_L35 D post o (g7.toInt64) M)))))
set_option maxHeartbeats 4000000 in
set_option maxRecDepth 100000 in
theorem w_X25_held {l : Launch} {D : zD} {post : Int64 → zM → Prop} (hlt : l.stackTraces = false) {o : Nat} {a0 : Int32} {M : zM} (hw : wp_X25_held D post o a0 M) : zMet l D yX25_held (ws_ yX25_held cX25_held 2 (some .long)) rm_X25_held 0 0 [.ref o, .int a0] M zL post (fun _ _ => False) := by
  unfold wp_X25_held at hw
  have hlv : lv_args 0 [.ref o, .int a0] = [(0, .ref o), (1, .int a0)] := (zargs1 rfl (zargs1 rfl rfl))
  refine z_ofW hlt (by decide) (Nat.le_trans (zsl1 rfl (zsl1 rfl (Nat.le_refl 0 : (lg_sl []).length ≤ 0))) (Nat.le_of_ble_eq_true rfl)) hlv ?_
  intro p e s m args below meth c ls hG hZ hl
  have hC := hG.1
  have hx := hC.x
  have hb := hC.b
  have hown := hC.o
  have hts := hC.ts
  have hlt := hG.2.2.2.2.2
  obtain ⟨cells, hce⟩ : ∃ z : Nat, z = 0 := ⟨0, rfl⟩
  obtain ⟨slots, hsl⟩ : ∃ z : Nat, z = 0 := ⟨0, rfl⟩
  refine W.cs (cells' := cells) (slots' := slots) hce.symm hsl.symm ?_
  have hk : cells ≤ 0 := Nat.le_of_eq hce
  have hn : slots ≤ 0 := Nat.le_of_eq hsl
  clear hce hsl
  refine lv_iload_n hx hb dX25_held_0 rfl (lv_at hl 1 rfl) ?_
  refine lv_iconst (v := 1) hx hb dX25_held_1 (by decide) ?_
  refine lv_icmp_ne (tgt := 16) hx hb dX25_held_2 (by decide) (fun c16 => ?_) (fun c16 => ?_)
  · replace hw := hw.1 c16
    refine lv_iload_n hx hb dX25_held_16 rfl (lv_at hl 1 rfl) ?_
    refine lv_iconst (v := 2) hx hb dX25_held_17 (by decide) ?_
    refine lv_icmp_ne (tgt := 32) hx hb dX25_held_18 (by decide) (fun c12 => ?_) (fun c12 => ?_)
    · replace hw := hw.1 c12
      refine lv_ldc2 hx hb hown (hts _ q1284) dX25_held_32 ?_
      exact wk_X25_held_L35 hG _ _ hk hn hZ (lv_sub hl [] rfl) hw
    · replace hw := hw.2 c12
      refine lv_aload_n hx hb dX25_held_21 rfl (lv_at hl 0 rfl) ?_
      obtain ⟨fs0, g9, hM0, hx0, hw⟩ := hw
      refine z_get hC hZ hM0 zc22 0 (by decide) q1180 (fun _ h9 => h9) hx0 dX25_held_22 ?_
      obtain ⟨b10, hr0, hw⟩ := hw
      subst hr0
      obtain ⟨fs0, g11, hM0, hx0, hw⟩ := hw
      refine z_getN hC hZ hM0 zc1 1 (by decide) q155 (fun _ h9 => h9) hx0 dX25_held_25 ?_
      refine lv_i2l hx hb dX25_held_28 rfl ?_
      refine lv_goto (tgt := 35) hx hb dX25_held_29 (by decide) ?_
      exact wk_X25_held_L35 hG _ _ hk hn hZ (lv_sub hl [] rfl) hw
  · replace hw := hw.2 c16
    refine lv_aload_n hx hb dX25_held_5 rfl (lv_at hl 0 rfl) ?_
    obtain ⟨fs0, g13, hM0, hx0, hw⟩ := hw
    refine z_get hC hZ hM0 zc22 0 (by decide) q1180 (fun _ h9 => h9) hx0 dX25_held_6 ?_
    obtain ⟨b14, hr0, hw⟩ := hw
    subst hr0
    obtain ⟨fs0, g15, hM0, hx0, hw⟩ := hw
    refine z_getN hC hZ hM0 zc1 0 (by decide) q151 (fun _ h9 => h9) hx0 dX25_held_9 ?_
    refine lv_i2l hx hb dX25_held_12 rfl ?_
    refine lv_goto (tgt := 35) hx hb dX25_held_13 (by decide) ?_
    exact wk_X25_held_L35 hG _ _ hk hn hZ (lv_sub hl [] rfl) hw
abbrev rm_X26_held : Room := { frames := 1, cells := 0, slots := 0, locals := 64 }
def wp_X26_held_L25 (D : zD) (post : Int64 → zM → Prop) (o : Nat) (y0 : Int64) (M : zM) : Prop :=
    post y0 M
set_option maxHeartbeats 4000000 in
set_option maxRecDepth 100000 in
theorem wk_X26_held_L25 {p : Program} {l : Launch} {e : Env} {s : State} {m : MethodId} {args : Array Value} {below : List Frame} {meth : Method} {c : Code} {D : zD} {post : Int64 → zM → Prop} {o : Nat} (hG : zGx p l s m args meth c cX26_held 2 "PluralBranches$Gendered" D (some .long) "held" []) : ∀ {H : Heap} {locs : List Loc} {cells slots : Nat} {ls : Array Slot} (y0 : Int64) (M : zM), cells ≤ 0 → slots ≤ 0 → zS D M H locs → lv_has ls 2 [] → wp_X26_held_L25 D post o y0 M → W p l e rm_X26_held s m args below meth c H locs cells slots (vx_MQ below (zQ D zL post) (zX D (fun _ _ => False)) args s 0 0 (zA D)) (F0 m 25 ls [.long y0]) := by
  have hC := hG.1
  have hx := hC.x
  have hb := hC.b
  have hown := hC.o
  have hts := hC.ts
  have hlt := hG.2.2.2.2.2
  intro H locs cells slots ls y0 M hk hn hZ hl hw
  exact z_lret hG hZ hk hn hw dX26_held_25
def wp_X26_held (D : zD) (post : Int64 → zM → Prop) (o : Nat) (a0 : Int32) (M : zM) : Prop :=
    ((¬ a0 = (1 : Int32) → ((¬ a0 = (2 : Int32) → wp_X26_held_L25 D post o (-9223372036854775808 : Int64) M) ∧ (a0 = (2 : Int32) → wp_X26_held_L25 D post o (0 : Int64) M))) ∧ (a0 = (1 : Int32) → (zgI M o 23 0 fun g2 => wp_X26_held_L25 D post o (g2.toInt64) M)))
set_option maxHeartbeats 4000000 in
set_option maxRecDepth 100000 in
theorem w_X26_held {l : Launch} {D : zD} {post : Int64 → zM → Prop} (hlt : l.stackTraces = false) {o : Nat} {a0 : Int32} {M : zM} (hw : wp_X26_held D post o a0 M) : zMet l D yX26_held (ws_ yX26_held cX26_held 2 (some .long)) rm_X26_held 0 0 [.ref o, .int a0] M zL post (fun _ _ => False) := by
  unfold wp_X26_held at hw
  have hlv : lv_args 0 [.ref o, .int a0] = [(0, .ref o), (1, .int a0)] := (zargs1 rfl (zargs1 rfl rfl))
  refine z_ofW hlt (by decide) (Nat.le_trans (zsl1 rfl (zsl1 rfl (Nat.le_refl 0 : (lg_sl []).length ≤ 0))) (Nat.le_of_ble_eq_true rfl)) hlv ?_
  intro p e s m args below meth c ls hG hZ hl
  have hC := hG.1
  have hx := hC.x
  have hb := hC.b
  have hown := hC.o
  have hts := hC.ts
  have hlt := hG.2.2.2.2.2
  obtain ⟨cells, hce⟩ : ∃ z : Nat, z = 0 := ⟨0, rfl⟩
  obtain ⟨slots, hsl⟩ : ∃ z : Nat, z = 0 := ⟨0, rfl⟩
  refine W.cs (cells' := cells) (slots' := slots) hce.symm hsl.symm ?_
  have hk : cells ≤ 0 := Nat.le_of_eq hce
  have hn : slots ≤ 0 := Nat.le_of_eq hsl
  clear hce hsl
  refine lv_iload_n hx hb dX26_held_0 rfl (lv_at hl 1 rfl) ?_
  refine lv_iconst (v := 1) hx hb dX26_held_1 (by decide) ?_
  refine lv_icmp_ne (tgt := 13) hx hb dX26_held_2 (by decide) (fun c6 => ?_) (fun c6 => ?_)
  · replace hw := hw.1 c6
    refine lv_iload_n hx hb dX26_held_13 rfl (lv_at hl 1 rfl) ?_
    refine lv_iconst (v := 2) hx hb dX26_held_14 (by decide) ?_
    refine lv_icmp_ne (tgt := 22) hx hb dX26_held_15 (by decide) (fun c4 => ?_) (fun c4 => ?_)
    · replace hw := hw.1 c4
      refine lv_ldc2 hx hb hown (hts _ q1272) dX26_held_22 ?_
      exact wk_X26_held_L25 hG _ _ hk hn hZ (lv_sub hl [] rfl) hw
    · replace hw := hw.2 c4
      refine lv_lconst (v := 0) hx hb dX26_held_18 (by decide) ?_
      refine lv_goto (tgt := 25) hx hb dX26_held_19 (by decide) ?_
      exact wk_X26_held_L25 hG _ _ hk hn hZ (lv_sub hl [] rfl) hw
  · replace hw := hw.2 c6
    refine lv_aload_n hx hb dX26_held_5 rfl (lv_at hl 0 rfl) ?_
    obtain ⟨fs0, g5, hM0, hx0, hw⟩ := hw
    refine z_get hC hZ hM0 zc23 0 (by decide) q1195 (fun _ h9 => h9) hx0 dX26_held_6 ?_
    refine lv_i2l hx hb dX26_held_9 rfl ?_
    refine lv_goto (tgt := 25) hx hb dX26_held_10 (by decide) ?_
    exact wk_X26_held_L25 hG _ _ hk hn hZ (lv_sub hl [] rfl) hw
abbrev rm_X27_held : Room := { frames := 1, cells := 0, slots := 0, locals := 64 }
def wp_X27_held_L49 (D : zD) (post : Int64 → zM → Prop) (o : Nat) (y0 : Int64) (M : zM) : Prop :=
    post y0 M
set_option maxHeartbeats 4000000 in
set_option maxRecDepth 100000 in
theorem wk_X27_held_L49 {p : Program} {l : Launch} {e : Env} {s : State} {m : MethodId} {args : Array Value} {below : List Frame} {meth : Method} {c : Code} {D : zD} {post : Int64 → zM → Prop} {o : Nat} (hG : zGx p l s m args meth c cX27_held 2 "PluralBranches$Listed" D (some .long) "held" []) : ∀ {H : Heap} {locs : List Loc} {cells slots : Nat} {ls : Array Slot} (y0 : Int64) (M : zM), cells ≤ 0 → slots ≤ 0 → zS D M H locs → lv_has ls 2 [] → wp_X27_held_L49 D post o y0 M → W p l e rm_X27_held s m args below meth c H locs cells slots (vx_MQ below (zQ D zL post) (zX D (fun _ _ => False)) args s 0 0 (zA D)) (F0 m 49 ls [.long y0]) := by
  have hC := hG.1
  have hx := hC.x
  have hb := hC.b
  have hown := hC.o
  have hts := hC.ts
  have hlt := hG.2.2.2.2.2
  intro H locs cells slots ls y0 M hk hn hZ hl hw
  exact z_lret hG hZ hk hn hw dX27_held_49
def wp_X27_held (D : zD) (post : Int64 → zM → Prop) (o : Nat) (a0 : Int32) (M : zM) : Prop :=
    ((¬ a0 = (1 : Int32) → ((¬ a0 = (2 : Int32) → (zgR M o 24 0 fun g1 => ((zd g1 fun b2 => zlen M b2 fun n3 => ((n3 ≤ (a0 - (3 : Int32)) → wp_X27_held_L49 D post o (-9223372036854775808 : Int64) M) ∧ (¬ n3 ≤ (a0 - (3 : Int32)) → (zgR M o 24 0 fun g4 => ((zd g4 fun b5 => zaI M b5 0 (a0 - (3 : Int32)) fun v6 => wp_X27_held_L49 D post o (v6.toInt64) M))))))))) ∧ (a0 = (2 : Int32) → wp_X27_held_L49 D post o (0 : Int64) M))) ∧ (a0 = (1 : Int32) → (zgR M o 24 0 fun g9 => ((zd g9 fun b10 => zlen M b10 fun n11 => wp_X27_held_L49 D post o (n11.toInt64) M)))))
set_option maxHeartbeats 4000000 in
set_option maxRecDepth 100000 in
theorem w_X27_held {l : Launch} {D : zD} {post : Int64 → zM → Prop} (hlt : l.stackTraces = false) {o : Nat} {a0 : Int32} {M : zM} (hw : wp_X27_held D post o a0 M) : zMet l D yX27_held (ws_ yX27_held cX27_held 2 (some .long)) rm_X27_held 0 0 [.ref o, .int a0] M zL post (fun _ _ => False) := by
  unfold wp_X27_held at hw
  have hlv : lv_args 0 [.ref o, .int a0] = [(0, .ref o), (1, .int a0)] := (zargs1 rfl (zargs1 rfl rfl))
  refine z_ofW hlt (by decide) (Nat.le_trans (zsl1 rfl (zsl1 rfl (Nat.le_refl 0 : (lg_sl []).length ≤ 0))) (Nat.le_of_ble_eq_true rfl)) hlv ?_
  intro p e s m args below meth c ls hG hZ hl
  have hC := hG.1
  have hx := hC.x
  have hb := hC.b
  have hown := hC.o
  have hts := hC.ts
  have hlt := hG.2.2.2.2.2
  obtain ⟨cells, hce⟩ : ∃ z : Nat, z = 0 := ⟨0, rfl⟩
  obtain ⟨slots, hsl⟩ : ∃ z : Nat, z = 0 := ⟨0, rfl⟩
  refine W.cs (cells' := cells) (slots' := slots) hce.symm hsl.symm ?_
  have hk : cells ≤ 0 := Nat.le_of_eq hce
  have hn : slots ≤ 0 := Nat.le_of_eq hsl
  clear hce hsl
  refine lv_iload_n hx hb dX27_held_0 rfl (lv_at hl 1 rfl) ?_
  refine lv_iconst (v := 1) hx hb dX27_held_1 (by decide) ?_
  refine lv_icmp_ne (tgt := 14) hx hb dX27_held_2 (by decide) (fun c24 => ?_) (fun c24 => ?_)
  · replace hw := hw.1 c24
    refine lv_iload_n hx hb dX27_held_14 rfl (lv_at hl 1 rfl) ?_
    refine lv_iconst (v := 2) hx hb dX27_held_15 (by decide) ?_
    refine lv_icmp_ne (tgt := 23) hx hb dX27_held_16 (by decide) (fun c20 => ?_) (fun c20 => ?_)
    · replace hw := hw.1 c20
      refine lv_iload_n hx hb dX27_held_23 rfl (lv_at hl 1 rfl) ?_
      refine lv_iconst (v := 3) hx hb dX27_held_24 (by decide) ?_
      refine lv_isub hx hb dX27_held_25 ?_
      refine lv_aload_n hx hb dX27_held_26 rfl (lv_at hl 0 rfl) ?_
      obtain ⟨fs0, g13, hM0, hx0, hw⟩ := hw
      refine z_get hC hZ hM0 zc24 0 (by decide) q1212 (fun _ h9 => h9) hx0 dX27_held_27 ?_
      obtain ⟨b14, hr0, hw⟩ := hw
      subst hr0
      obtain ⟨y0, hM0, hy0, hw⟩ := hw
      refine z_alen hC hZ hM0 hy0 dX27_held_30 ?_
      generalize Int32.ofNat y0.2.1 = n15 at hw ⊢
      refine lv_icmp_ge (tgt := 46) hx hb dX27_held_31 (by decide) (fun c19 => ?_) (fun c19 => ?_)
      · replace hw := hw.1 c19
        refine lv_ldc2 hx hb hown (hts _ q1278) dX27_held_46 ?_
        exact wk_X27_held_L49 hG _ _ hk hn hZ (lv_sub hl [] rfl) hw
      · replace hw := hw.2 c19
        refine lv_aload_n hx hb dX27_held_34 rfl (lv_at hl 0 rfl) ?_
        obtain ⟨fs0, g16, hM0, hx0, hw⟩ := hw
        refine z_get hC hZ hM0 zc24 0 (by decide) q1212 (fun _ h9 => h9) hx0 dX27_held_35 ?_
        refine lv_iload_n hx hb dX27_held_38 rfl (lv_at hl 1 rfl) ?_
        refine lv_iconst (v := 3) hx hb dX27_held_39 (by decide) ?_
        refine lv_isub hx hb dX27_held_40 ?_
        obtain ⟨b17, hr0, hw⟩ := hw
        subst hr0
        obtain ⟨n0, f0, hM0, hi0, hw⟩ := hw
        refine z_iald hC hZ hM0 hi0 dX27_held_41 ?_
        generalize f0 _ = v18 at hw ⊢
        refine lv_i2l hx hb dX27_held_42 rfl ?_
        refine lv_goto (tgt := 49) hx hb dX27_held_43 (by decide) ?_
        exact wk_X27_held_L49 hG _ _ hk hn hZ (lv_sub hl [] rfl) hw
    · replace hw := hw.2 c20
      refine lv_lconst (v := 0) hx hb dX27_held_19 (by decide) ?_
      refine lv_goto (tgt := 49) hx hb dX27_held_20 (by decide) ?_
      exact wk_X27_held_L49 hG _ _ hk hn hZ (lv_sub hl [] rfl) hw
  · replace hw := hw.2 c24
    refine lv_aload_n hx hb dX27_held_5 rfl (lv_at hl 0 rfl) ?_
    obtain ⟨fs0, g21, hM0, hx0, hw⟩ := hw
    refine z_get hC hZ hM0 zc24 0 (by decide) q1212 (fun _ h9 => h9) hx0 dX27_held_6 ?_
    obtain ⟨b22, hr0, hw⟩ := hw
    subst hr0
    obtain ⟨y0, hM0, hy0, hw⟩ := hw
    refine z_alen hC hZ hM0 hy0 dX27_held_9 ?_
    generalize Int32.ofNat y0.2.1 = n23 at hw ⊢
    refine lv_i2l hx hb dX27_held_10 rfl ?_
    refine lv_goto (tgt := 49) hx hb dX27_held_11 (by decide) ?_
    exact wk_X27_held_L49 hG _ _ hk hn hZ (lv_sub hl [] rfl) hw
abbrev rm_X0_held : Room := { frames := 3, cells := 0, slots := 0, locals := 109 }
def wp_X0_held_L19 (D : zD) (post : Int64 → zM → Prop) (o : Nat) (M : zM) : Prop :=
    post (-9223372036854775808 : Int64) M
set_option maxHeartbeats 4000000 in
set_option maxRecDepth 100000 in
theorem wk_X0_held_L19 {p : Program} {l : Launch} {e : Env} {s : State} {m : MethodId} {args : Array Value} {below : List Frame} {meth : Method} {c : Code} {D : zD} {post : Int64 → zM → Prop} {o : Nat} (hG : zGx p l s m args meth c cX0_held 3 "PluralBranches" D (some .long) "held" []) : ∀ {H : Heap} {locs : List Loc} {cells slots : Nat} {ls : Array Slot} (M : zM), cells ≤ 0 → slots ≤ 0 → zS D M H locs → lv_has ls 3 [] → wp_X0_held_L19 D post o M → W p l e rm_X0_held s m args below meth c H locs cells slots (vx_MQ below (zQ D zL post) (zX D (fun _ _ => False)) args s 0 0 (zA D)) (F0 m 19 ls []) := by
  have hC := hG.1
  have hx := hC.x
  have hb := hC.b
  have hown := hC.o
  have hts := hC.ts
  have hlt := hG.2.2.2.2.2
  intro H locs cells slots ls M hk hn hZ hl hw
  refine lv_ldc2 hx hb hown (hts _ q442) dX0_held_19 ?_
  exact z_lret hG hZ hk hn hw dX0_held_22
def wp_X0_held_L61 (D : zD) (post : Int64 → zM → Prop) (o : Nat) (y0 : Int64) (M : zM) : Prop :=
    post y0 M
set_option maxHeartbeats 4000000 in
set_option maxRecDepth 100000 in
theorem wk_X0_held_L61 {p : Program} {l : Launch} {e : Env} {s : State} {m : MethodId} {args : Array Value} {below : List Frame} {meth : Method} {c : Code} {D : zD} {post : Int64 → zM → Prop} {o : Nat} (hG : zGx p l s m args meth c cX0_held 3 "PluralBranches" D (some .long) "held" []) : ∀ {H : Heap} {locs : List Loc} {cells slots : Nat} {ls : Array Slot} (y0 : Int64) (M : zM), cells ≤ 0 → slots ≤ 0 → zS D M H locs → lv_has ls 3 [] → wp_X0_held_L61 D post o y0 M → W p l e rm_X0_held s m args below meth c H locs cells slots (vx_MQ below (zQ D zL post) (zX D (fun _ _ => False)) args s 0 0 (zA D)) (F0 m 61 ls [.long y0]) := by
  have hC := hG.1
  have hx := hC.x
  have hb := hC.b
  have hown := hC.o
  have hts := hC.ts
  have hlt := hG.2.2.2.2.2
  intro H locs cells slots ls y0 M hk hn hZ hl hw
  exact z_lret hG hZ hk hn hw dX0_held_61
def wp_X0_held (D : zD) (post : Int64 → zM → Prop) (o : Nat) (a0 : Int32) (a1 : Int32) (M : zM) : Prop :=
    (wp_X0_isArgument D (fun r1 M => ((r1 = 0 → wp_X0_held_L19 D post o M) ∧ (¬ r1 = 0 → (wp_X0_in D (fun r4 M => ((¬ r4 = 0 → ((¬ a1 = 0 → (zgR M o 0 6 fun g7 => ((zd g7 fun b8 => zaR M b8 9 a0 fun v9 => ((∀ b10 : Nat, v9 = some b10 → (zgR M o 0 6 fun g11 => ((zd g11 fun b12 => zaR M b12 9 a0 fun v13 => ((zd v13 fun b14 => ((zis M b14 [22] ∧ wp_X25_held D (fun r15 M => wp_X0_held_L61 D post o r15 M) b14 a1 M) ∨ (zis M b14 [23] ∧ wp_X26_held D (fun r18 M => wp_X0_held_L61 D post o r18 M) b14 a1 M) ∨ (zis M b14 [24] ∧ wp_X27_held D (fun r21 M => wp_X0_held_L61 D post o r21 M) b14 a1 M)))))))) ∧ (v9 = none → wp_X0_held_L61 D post o (-9223372036854775808 : Int64) M)))))) ∧ (a1 = 0 → ((zis M o [0] ∧ wp_X0_typeOf D (fun r24 M => post (r24.toInt64) M) o a0 M))))) ∧ (r4 = 0 → wp_X0_held_L19 D post o M))) (a1.toInt64) (0 : Int64) (8 : Int64) M)))) a0 M)
set_option maxHeartbeats 4000000 in
set_option maxRecDepth 100000 in
theorem w_X0_held {l : Launch} {D : zD} {post : Int64 → zM → Prop} (hlt : l.stackTraces = false) {o : Nat} {a0 : Int32} {a1 : Int32} {M : zM} (hw : wp_X0_held D post o a0 a1 M) : zMet l D yX0_held (ws_ yX0_held cX0_held 3 (some .long)) rm_X0_held 0 0 [.ref o, .int a0, .int a1] M zL post (fun _ _ => False) := by
  unfold wp_X0_held at hw
  have hlv : lv_args 0 [.ref o, .int a0, .int a1] = [(0, .ref o), (1, .int a0), (2, .int a1)] := (zargs1 rfl (zargs1 rfl (zargs1 rfl rfl)))
  refine z_ofW hlt (by decide) (Nat.le_trans (zsl1 rfl (zsl1 rfl (zsl1 rfl (Nat.le_refl 0 : (lg_sl []).length ≤ 0)))) (Nat.le_of_ble_eq_true rfl)) hlv ?_
  intro p e s m args below meth c ls hG hZ hl
  have hC := hG.1
  have hx := hC.x
  have hb := hC.b
  have hown := hC.o
  have hts := hC.ts
  have hlt := hG.2.2.2.2.2
  obtain ⟨cells, hce⟩ : ∃ z : Nat, z = 0 := ⟨0, rfl⟩
  obtain ⟨slots, hsl⟩ : ∃ z : Nat, z = 0 := ⟨0, rfl⟩
  refine W.cs (cells' := cells) (slots' := slots) hce.symm hsl.symm ?_
  have hk : cells ≤ 0 := Nat.le_of_eq hce
  have hn : slots ≤ 0 := Nat.le_of_eq hsl
  clear hce hsl
  refine lv_iload_n hx hb dX0_held_0 rfl (lv_at hl 1 rfl) ?_
  refine z_callI hZ (vx_runS (As := [.int a0]) (rest := []) hC.fix (w_X0_isArgument hlt hw) (va_cwS 1 hts (lw_S q1085 q1086 q67 q1087) rfl rfl rfl dd_X0_isArgument ⟨Nat.le_of_ble_eq_true rfl, Nat.le_of_ble_eq_true rfl⟩) (z_preS hC hZ) rfl rfl hl.1 rfl (lv_room (Nat.zero_le _)) dX0_held_1 ⟨hk, hn⟩) (fun r30 M H locs hw1 hZ => ?_) (fun q M H locs ci fs E T9 N9 hw hZ hc1 hM1 hb1 => False.elim hw)
  replace hw := hw1
  clear hw1
  refine W.cs (cells' := cells) (slots' := slots) rfl rfl ?_
  refine lv_if_eq (tgt := 19) hx hb dX0_held_4 (by decide) (fun c58 => ?_) (fun c58 => ?_)
  · replace hw := hw.1 c58
    exact wk_X0_held_L19 hG _ hk hn hZ (lv_sub hl [] rfl) hw
  · replace hw := hw.2 c58
    refine lv_iload_n hx hb dX0_held_7 rfl (lv_at hl 2 rfl) ?_
    refine lv_i2l hx hb dX0_held_8 rfl ?_
    refine lv_lconst (v := 0) hx hb dX0_held_9 (by decide) ?_
    refine lv_ldc2 hx hb hown (hts _ q1262) dX0_held_10 ?_
    refine z_callI hZ (vx_runS (As := [.long (a1.toInt64), .long (0 : Int64), .long (8 : Int64)]) (rest := []) hC.fix (w_X0_in hlt hw) (va_cwS 3 hts (lw_S q434 q435 q67 q436) rfl rfl rfl dd_X0_in ⟨Nat.le_of_ble_eq_true rfl, Nat.le_of_ble_eq_true rfl⟩) (z_preS hC hZ) rfl rfl hl.1 rfl (lv_room (Nat.zero_le _)) dX0_held_13 ⟨hk, hn⟩) (fun r33 M H locs hw1 hZ => ?_) (fun q M H locs ci fs E T9 N9 hw hZ hc1 hM1 hb1 => False.elim hw)
    replace hw := hw1
    clear hw1
    refine W.cs (cells' := cells) (slots' := slots) rfl rfl ?_
    refine lv_if_ne (tgt := 23) hx hb dX0_held_16 (by decide) (fun c57 => ?_) (fun c57 => ?_)
    · replace hw := hw.1 c57
      refine lv_iload_n hx hb dX0_held_23 rfl (lv_at hl 2 rfl) ?_
      refine lv_if_ne (tgt := 34) hx hb dX0_held_24 (by decide) (fun c56 => ?_) (fun c56 => ?_)
      · replace hw := hw.1 c56
        refine lv_aload_n hx hb dX0_held_34 rfl (lv_at hl 0 rfl) ?_
        obtain ⟨fs0, g36, hM0, hx0, hw⟩ := hw
        refine z_get hC hZ hM0 zc0 6 (by decide) q407 (fun _ h9 => h9) hx0 dX0_held_35 ?_
        refine lv_iload_n hx hb dX0_held_38 rfl (lv_at hl 1 rfl) ?_
        obtain ⟨b37, hr0, hw⟩ := hw
        subst hr0
        obtain ⟨n0, f0, v38, hM0, hi0, hr0, hw⟩ := hw
        refine z_aald hC hZ hM0 (by decide) rfl hi0 hr0 dX0_held_39 ?_
        refine z_ifnonnull (tgt := 49) hC dX0_held_40 (by decide) (fun b39 hr0 => ?_) (fun hr0 => ?_)
        · replace hw := hw.1 b39 hr0
          subst hr0
          refine lv_aload_n hx hb dX0_held_49 rfl (lv_at hl 0 rfl) ?_
          obtain ⟨fs0, g40, hM0, hx0, hw⟩ := hw
          refine z_get hC hZ hM0 zc0 6 (by decide) q407 (fun _ h9 => h9) hx0 dX0_held_50 ?_
          refine lv_iload_n hx hb dX0_held_53 rfl (lv_at hl 1 rfl) ?_
          obtain ⟨b41, hr0, hw⟩ := hw
          subst hr0
          obtain ⟨n0, f0, v42, hM0, hi0, hr0, hw⟩ := hw
          refine z_aald hC hZ hM0 (by decide) rfl hi0 hr0 dX0_held_54 ?_
          refine lv_iload_n hx hb dX0_held_55 rfl (lv_at hl 2 rfl) ?_
          obtain ⟨b43, hr0, hw⟩ := hw
          subst hr0
          rcases hw with hw | hw | hw
          · obtain ⟨⟨ci0, fs0, hci0, hM0⟩, hw⟩ := hw
            obtain ⟨C0, T0, N0, ty0, hc0, hsel0, hf0⟩ : ∃ (C0 : String) (T0 : u_T) (N0 : Nat) (ty0 : Nat → FieldType), zCls ci0 C0 T0 N0 ty0 ∧ Cond.selects C0 ⟨"PluralBranches$Thing", "held", "(I)J"⟩ yX25_held ∈ lw_all ∧ (C0, ⟨"PluralBranches$Thing", "held", "(I)J"⟩, yX25_held) ∈ zFs := (zal ⟨_, _, _, _, zc22, q1279, List.mem_of_getElem? (i := 7) rfl⟩ (za0) : ∀ ci ∈ [22], ∃ (C0 : String) (T0 : u_T) (N0 : Nat) (ty0 : Nat → FieldType), zCls ci C0 T0 N0 ty0 ∧ Cond.selects C0 ⟨"PluralBranches$Thing", "held", "(I)J"⟩ yX25_held ∈ lw_all ∧ (C0, ⟨"PluralBranches$Thing", "held", "(I)J"⟩, yX25_held) ∈ zFs) ci0 hci0
            refine z_callL5 hZ (vx_runF (As := [.int a1]) (rest := []) (hC.vK.1 _ _ hc0.1).2 hC.fix (w_X25_held hlt hw) (va_cwF 1 hts (lw_app (zal q1264 (zal hsel0 (zal q1281 (zal q109 za0)))) (lw_meth q1283)) rfl rfl rfl (hC.K.2.2.2.1 _ hf0) (by decide +kernel) ⟨Nat.le_of_ble_eq_true rfl, Nat.le_of_ble_eq_true rfl⟩) (z_preV hC hZ hM0 hc0) rfl rfl hl.1 rfl (lv_room (Nat.zero_le _)) dX0_held_56 ⟨hk, hn⟩) (fun r44 M H locs hw1 hZ => ?_) (fun q M H locs ci fs E T9 N9 hw hZ hc1 hM1 hb1 => False.elim hw)
            replace hw := hw1
            clear hw1
            refine W.cs (cells' := cells) (slots' := slots) rfl rfl ?_
            exact wk_X0_held_L61 hG _ _ hk hn hZ (lv_sub hl [] rfl) hw
          · obtain ⟨⟨ci0, fs0, hci0, hM0⟩, hw⟩ := hw
            obtain ⟨C0, T0, N0, ty0, hc0, hsel0, hf0⟩ : ∃ (C0 : String) (T0 : u_T) (N0 : Nat) (ty0 : Nat → FieldType), zCls ci0 C0 T0 N0 ty0 ∧ Cond.selects C0 ⟨"PluralBranches$Thing", "held", "(I)J"⟩ yX26_held ∈ lw_all ∧ (C0, ⟨"PluralBranches$Thing", "held", "(I)J"⟩, yX26_held) ∈ zFs := (zal ⟨_, _, _, _, zc23, q1267, List.mem_of_getElem? (i := 5) rfl⟩ (za0) : ∀ ci ∈ [23], ∃ (C0 : String) (T0 : u_T) (N0 : Nat) (ty0 : Nat → FieldType), zCls ci C0 T0 N0 ty0 ∧ Cond.selects C0 ⟨"PluralBranches$Thing", "held", "(I)J"⟩ yX26_held ∈ lw_all ∧ (C0, ⟨"PluralBranches$Thing", "held", "(I)J"⟩, yX26_held) ∈ zFs) ci0 hci0
            refine z_callL5 hZ (vx_runF (As := [.int a1]) (rest := []) (hC.vK.1 _ _ hc0.1).2 hC.fix (w_X26_held hlt hw) (va_cwF 1 hts (lw_app (zal q1264 (zal hsel0 (zal q1269 (zal q110 za0)))) (lw_meth q1271)) rfl rfl rfl (hC.K.2.2.2.1 _ hf0) (by decide +kernel) ⟨Nat.le_of_ble_eq_true rfl, Nat.le_of_ble_eq_true rfl⟩) (z_preV hC hZ hM0 hc0) rfl rfl hl.1 rfl (lv_room (Nat.zero_le _)) dX0_held_56 ⟨hk, hn⟩) (fun r47 M H locs hw1 hZ => ?_) (fun q M H locs ci fs E T9 N9 hw hZ hc1 hM1 hb1 => False.elim hw)
            replace hw := hw1
            clear hw1
            refine W.cs (cells' := cells) (slots' := slots) rfl rfl ?_
            exact wk_X0_held_L61 hG _ _ hk hn hZ (lv_sub hl [] rfl) hw
          · obtain ⟨⟨ci0, fs0, hci0, hM0⟩, hw⟩ := hw
            obtain ⟨C0, T0, N0, ty0, hc0, hsel0, hf0⟩ : ∃ (C0 : String) (T0 : u_T) (N0 : Nat) (ty0 : Nat → FieldType), zCls ci0 C0 T0 N0 ty0 ∧ Cond.selects C0 ⟨"PluralBranches$Thing", "held", "(I)J"⟩ yX27_held ∈ lw_all ∧ (C0, ⟨"PluralBranches$Thing", "held", "(I)J"⟩, yX27_held) ∈ zFs := (zal ⟨_, _, _, _, zc24, q1273, List.mem_of_getElem? (i := 6) rfl⟩ (za0) : ∀ ci ∈ [24], ∃ (C0 : String) (T0 : u_T) (N0 : Nat) (ty0 : Nat → FieldType), zCls ci C0 T0 N0 ty0 ∧ Cond.selects C0 ⟨"PluralBranches$Thing", "held", "(I)J"⟩ yX27_held ∈ lw_all ∧ (C0, ⟨"PluralBranches$Thing", "held", "(I)J"⟩, yX27_held) ∈ zFs) ci0 hci0
            refine z_callL5 hZ (vx_runF (As := [.int a1]) (rest := []) (hC.vK.1 _ _ hc0.1).2 hC.fix (w_X27_held hlt hw) (va_cwF 1 hts (lw_app (zal q1264 (zal hsel0 (zal q1275 (zal q111 za0)))) (lw_meth q1277)) rfl rfl rfl (hC.K.2.2.2.1 _ hf0) (by decide +kernel) ⟨Nat.le_of_ble_eq_true rfl, Nat.le_of_ble_eq_true rfl⟩) (z_preV hC hZ hM0 hc0) rfl rfl hl.1 rfl (lv_room (Nat.zero_le _)) dX0_held_56 ⟨hk, hn⟩) (fun r50 M H locs hw1 hZ => ?_) (fun q M H locs ci fs E T9 N9 hw hZ hc1 hM1 hb1 => False.elim hw)
            replace hw := hw1
            clear hw1
            refine W.cs (cells' := cells) (slots' := slots) rfl rfl ?_
            exact wk_X0_held_L61 hG _ _ hk hn hZ (lv_sub hl [] rfl) hw
        · replace hw := hw.2 hr0
          refine lv_ldc2 hx hb hown (hts _ q442) dX0_held_43 ?_
          refine lv_goto (tgt := 61) hx hb dX0_held_46 (by decide) ?_
          exact wk_X0_held_L61 hG _ _ hk hn hZ (lv_sub hl [] rfl) hw
      · replace hw := hw.2 c56
        refine lv_aload_n hx hb dX0_held_27 rfl (lv_at hl 0 rfl) ?_
        refine lv_iload_n hx hb dX0_held_28 rfl (lv_at hl 1 rfl) ?_
        obtain ⟨⟨ci0, fs0, hci0, hM0⟩, hw⟩ := hw
        obtain rfl : ci0 = 0 := List.mem_singleton.mp hci0
        refine z_callI hZ (vx_runV (As := [.int a0]) (rest := []) hC.fix (w_X0_typeOf hlt hw) (cwV 1 hts (lw_V q1232 q1234 qs23 q67 q1235) rfl rfl rfl ⟨rfl, dd_X0_typeOf⟩ ⟨Nat.le_of_ble_eq_true rfl, Nat.le_of_ble_eq_true rfl⟩) (z_preV hC hZ hM0 zc0) rfl rfl hl.1 rfl (lv_room (Nat.zero_le _)) dX0_held_29 ⟨hk, hn⟩) (fun r53 M H locs hw1 hZ => ?_) (fun q M H locs ci fs E T9 N9 hw hZ hc1 hM1 hb1 => False.elim hw)
        replace hw := hw1
        clear hw1
        refine W.cs (cells' := cells) (slots' := slots) rfl rfl ?_
        refine lv_i2l hx hb dX0_held_32 rfl ?_
        exact z_lret hG hZ hk hn hw dX0_held_33
    · replace hw := hw.2 c57
      exact wk_X0_held_L19 hG _ hk hn hZ (lv_sub hl [] rfl) hw
abbrev rm_X1_init : Room := { frames := 3, cells := 0, slots := 0, locals := 111 }
def wp_X1_init (D : zD) (post : Unit → zM → Prop) (o : Nat) (a0 : Int32) (M : zM) : Prop :=
    (wp_X1_init_2 D (fun _ M => post () M) o a0 (0 : Int32) M)
set_option maxHeartbeats 4000000 in
set_option maxRecDepth 100000 in
theorem w_X1_init {l : Launch} {D : zD} {post : Unit → zM → Prop} (hlt : l.stackTraces = false) {o : Nat} {a0 : Int32} {M : zM} (hw : wp_X1_init D post o a0 M) : zMet l D yX1_init (ws_ yX1_init cX1_init 2 (none)) rm_X1_init 0 0 [.ref o, .int a0] M zU post (fun _ _ => False) := by
  unfold wp_X1_init at hw
  have hlv : lv_args 0 [.ref o, .int a0] = [(0, .ref o), (1, .int a0)] := (zargs1 rfl (zargs1 rfl rfl))
  refine z_ofW hlt (by decide) (Nat.le_trans (zsl1 rfl (zsl1 rfl (Nat.le_refl 0 : (lg_sl []).length ≤ 0))) (Nat.le_of_ble_eq_true rfl)) hlv ?_
  intro p e s m args below meth c ls hG hZ hl
  have hC := hG.1
  have hx := hC.x
  have hb := hC.b
  have hown := hC.o
  have hts := hC.ts
  have hlt := hG.2.2.2.2.2
  obtain ⟨cells, hce⟩ : ∃ z : Nat, z = 0 := ⟨0, rfl⟩
  obtain ⟨slots, hsl⟩ : ∃ z : Nat, z = 0 := ⟨0, rfl⟩
  refine W.cs (cells' := cells) (slots' := slots) hce.symm hsl.symm ?_
  have hk : cells ≤ 0 := Nat.le_of_eq hce
  have hn : slots ≤ 0 := Nat.le_of_eq hsl
  clear hce hsl
  refine lv_aload_n hx hb dX1_init_0 rfl (lv_at hl 0 rfl) ?_
  refine lv_iload_n hx hb dX1_init_1 rfl (lv_at hl 1 rfl) ?_
  refine lv_iconst (v := 0) hx hb dX1_init_2 (by decide) ?_
  refine z_callU hZ (vx_runI (As := [.int a0, .int (0 : Int32)]) (rest := []) hC.fix (w_X1_init_2 hlt hw) (cwI 2 hts (lw_meth q136) rfl rfl rfl (hts _ q68) (hts _ q134) (hts _ q135) rfl dd_X1_init_2 ⟨Nat.le_of_ble_eq_true rfl, Nat.le_of_ble_eq_true rfl⟩) (z_preS hC hZ) rfl rfl hl.1 rfl (lv_room (Nat.zero_le _)) dX1_init_3 ⟨hk, hn⟩) (fun r4 M H locs hw1 hZ => ?_) (fun q M H locs ci fs E T9 N9 hw hZ hc1 hM1 hb1 => False.elim hw)
  replace hw := hw1
  clear hw1
  refine W.cs (cells' := cells) (slots' := slots) rfl rfl ?_
  exact z_vret hG hZ hk hn hw dX1_init_6
abbrev rm_X2_init (K N : Nat) : Room := { frames := 6, cells := K, slots := N, locals := 173 }
def wp_X2_init (D : zD) (post : Unit → zM → Prop) (k : Nat) (n : Nat) (o : Nat) (M : zM) : Prop :=
    (znew D M 26 3 [.int 0, .null, .int 0] k n fun b1 M => (wp_J3_init D (fun _ M => (zpm D M o [(2, 0), (4, 0), (5, 0), (6, 0)] (.ref b1) fun M => (zgRm M o [(2, 0), (4, 0), (5, 0), (6, 0)] fun g5 => ((zd g5 fun b6 => (zis M b6 [26] ∧ (∃ k8 n9, k8 ≤ (k - 1) ∧ n9 ≤ (n - 3) ∧ wp_J3_ensureCapacity D (fun _ M => post () M) k8 n9 b6 (12 : Int32) M))))))) b1 M))
set_option maxHeartbeats 4000000 in
set_option maxRecDepth 100000 in
theorem w_X2_init {l : Launch} {D : zD} {post : Unit → zM → Prop} (hlt : l.stackTraces = false) {k : Nat} {n : Nat} {o : Nat} {M : zM} (hw : wp_X2_init D post k n o M) : zMet l D yX2_init (ws_ yX2_init cX2_init 1 (none)) (rm_X2_init k n) k n [.ref o] M zU post (fun _ _ => False) := by
  unfold wp_X2_init at hw
  have hlv : lv_args 0 [.ref o] = [(0, .ref o)] := (zargs1 rfl rfl)
  refine z_ofW hlt (by decide) (Nat.le_trans (zsl1 rfl (Nat.le_refl 0 : (lg_sl []).length ≤ 0)) (Nat.le_of_ble_eq_true rfl)) hlv ?_
  intro p e s m args below meth c ls hG hZ hl
  have hC := hG.1
  have hx := hC.x
  have hb := hC.b
  have hown := hC.o
  have hts := hC.ts
  have hlt := hG.2.2.2.2.2
  obtain ⟨cells, hce⟩ : ∃ z : Nat, z = 0 := ⟨0, rfl⟩
  obtain ⟨slots, hsl⟩ : ∃ z : Nat, z = 0 := ⟨0, rfl⟩
  refine W.cs (cells' := cells) (slots' := slots) hce.symm hsl.symm ?_
  have hk : cells + k ≤ k := by omega
  have hn : slots + n ≤ n := by omega
  clear hce hsl
  refine lv_aload_n hx hb dX2_init_0 rfl (lv_at hl 0 rfl) ?_
  refine W.objInit hx hb hown (hts _ q189) (hts _ q124) (hts _ q125) rfl (by rw [hC.ml]; exact hl.1) rfl dX2_init_1 (Nat.le_of_ble_eq_true rfl) (Nat.le_of_ble_eq_true rfl) ?_
  refine W.eq (g2 := F0 m 4 ls []) rfl ?_
  refine lv_aload_n hx hb dX2_init_4 rfl (lv_at hl 0 rfl) ?_
  obtain ⟨hk1, hn1, hw⟩ := hw
  refine z_new (fs := [.int 0, .null, .int 0]) hC hZ zc26 q190 q191 q74 (zdefs (N := 3) (ty := tyJ3) (fs := [.int 0, .null, .int 0]) (by decide)) (show cells + 1 ≤ k by omega) (show slots + 3 ≤ n by omega) dX2_init_5 (fun b11 H hq0 hq1 hZ => ?_)
  replace hw := hw b11 hq0 hq1
  generalize zu M _ _ = M at hw hZ
  have hk : cells + 1 + (k - 1) ≤ k := by omega
  have hn : slots + 3 + (n - 3) ≤ n := by omega
  generalize cells + 1 = cells at hk ⊢
  generalize slots + 3 = slots at hn ⊢
  clear hk1 hn1
  refine lv_dup hx hb dX2_init_8 rfl ?_
  refine z_callU hZ (vx_runI (As := []) (rest := [.ref b11, .ref o]) hC.fix (w_J3_init hlt hw) (cwI 0 hts (lw_meth q194) rfl rfl rfl (hts _ q74) (hts _ q192) (hts _ q193) rfl dd_J3_init ⟨Nat.le_of_ble_eq_true rfl, Nat.le_of_ble_eq_true rfl⟩) (z_preS hC hZ) rfl rfl hl.1 rfl (lv_room (Nat.le_trans (zrm1 rfl (zrm1 rfl zrm0)) (Nat.le_of_ble_eq_true rfl))) dX2_init_9 ⟨(show cells + 0 ≤ k by omega), (show slots + 0 ≤ n by omega)⟩) (fun r12 M H locs hw1 hZ => ?_) (fun q M H locs ci fs E T9 N9 hw hZ hc1 hM1 hb1 => False.elim hw)
  replace hw := hw1
  clear hw1
  refine W.cs (cells' := cells) (slots' := slots) rfl rfl ?_
  obtain ⟨q0, fs0, hL0, hM0, hb0, hk0, hw⟩ := hw
  refine z_putFm hC hZ hM0 hb0 (L := [(2, 0), (4, 0), (5, 0), (6, 0)]) (ref := "PluralBranches$Language") (index := 12) (ty0 := (.object "java/util/ArrayList")) (zal (⟨_, _, _, _, zc2, by decide, q288, (fun _ h9 => h9), rfl, by decide, rfl⟩) (zal (⟨_, _, _, _, zc4, by decide, q288, (fun _ h9 => h9), rfl, by decide, rfl⟩) (zal (⟨_, _, _, _, zc5, by decide, q288, (fun _ h9 => h9), rfl, by decide, rfl⟩) (zal (⟨_, _, _, _, zc6, by decide, q288, (fun _ h9 => h9), rfl, by decide, rfl⟩) (za0))))) hL0 hG.2.2.2.1 rfl rfl hk0 dX2_init_12 (fun H locs hZ => ?_)
  generalize zu M _ _ = M at hw hZ
  refine lv_aload_n hx hb dX2_init_15 rfl (lv_at hl 0 rfl) ?_
  obtain ⟨q0, fs0, g15, hL0, hM0, hx0, hw⟩ := hw
  refine z_getm hC hZ hM0 (L := [(2, 0), (4, 0), (5, 0), (6, 0)]) (ref := "PluralBranches$Language") (index := 12) (zal (⟨_, _, _, _, zc2, by decide, q288, (fun _ h9 => h9)⟩) (zal (⟨_, _, _, _, zc4, by decide, q288, (fun _ h9 => h9)⟩) (zal (⟨_, _, _, _, zc5, by decide, q288, (fun _ h9 => h9)⟩) (zal (⟨_, _, _, _, zc6, by decide, q288, (fun _ h9 => h9)⟩) (za0))))) hL0 hx0 dX2_init_16 ?_
  refine lv_bipush (v := 12) hx hb dX2_init_19 (by decide) ?_
  obtain ⟨b16, hr0, hw⟩ := hw
  subst hr0
  obtain ⟨⟨ci0, fs0, hci0, hM0⟩, hw⟩ := hw
  obtain ⟨k18, n19, hk1, hn1, hw⟩ := hw
  obtain rfl : ci0 = 26 := List.mem_singleton.mp hci0
  refine z_callU hZ (vx_runV (As := [.int (12 : Int32)]) (rest := []) hC.fix (w_J3_ensureCapacity hlt hw) (cwV 1 hts (lw_V q220 q221 q222 q74 q223) rfl rfl rfl ⟨rfl, dd_J3_ensureCapacity⟩ ⟨Nat.le_of_ble_eq_true rfl, Nat.le_of_ble_eq_true rfl⟩) (z_preV hC hZ hM0 zc26) rfl rfl hl.1 rfl (lv_room (Nat.zero_le _)) dX2_init_21 ⟨(show cells + k18 ≤ k by omega), (show slots + n19 ≤ n by omega)⟩) (fun r17 M H locs hw1 hZ => ?_) (fun q M H locs ci fs E T9 N9 hw hZ hc1 hM1 hb1 => False.elim hw)
  replace hw := hw1
  clear hw1
  have hk : cells + k18 + ((k - 1) - k18) ≤ k := by omega
  have hn : slots + n19 + ((n - 3) - n19) ≤ n := by omega
  generalize cells + k18 = cells at hk ⊢
  generalize slots + n19 = slots at hn ⊢
  clear hk1 hn1
  exact z_vret hG hZ (by omega) (by omega) hw dX2_init_24
abbrev rm_X3_init (K N : Nat) : Room := { frames := 7, cells := K, slots := N, locals := 193 }
def wp_X3_init (D : zD) (post : Unit → zM → Prop) (k : Nat) (n : Nat) (o : Nat) (a0 : Option Nat) (M : zM) : Prop :=
    ((∃ k2 n3, k2 ≤ k ∧ n3 ≤ n ∧ wp_X2_init D (fun _ M => (zp D M o 2 2 (va_rf a0) fun M => post () M)) k2 n3 o M))
set_option maxHeartbeats 4000000 in
set_option maxRecDepth 100000 in
theorem w_X3_init {l : Launch} {D : zD} {post : Unit → zM → Prop} (hlt : l.stackTraces = false) {k : Nat} {n : Nat} {o : Nat} {a0 : Option Nat} {M : zM} (hw : wp_X3_init D post k n o a0 M) : zMet l D yX3_init (ws_ yX3_init cX3_init 2 (none)) (rm_X3_init k n) k n [.ref o, va_rf a0] M zU post (fun _ _ => False) := by
  unfold wp_X3_init at hw
  have hlv : lv_args 0 [.ref o, va_rf a0] = [(0, .ref o), (1, va_rf a0)] := (zargs1 rfl (zargs1 (zcat _) rfl))
  refine z_ofW hlt (by decide) (Nat.le_trans (zsl1 rfl (zsl1 (zcat _) (Nat.le_refl 0 : (lg_sl []).length ≤ 0))) (Nat.le_of_ble_eq_true rfl)) hlv ?_
  intro p e s m args below meth c ls hG hZ hl
  have hC := hG.1
  have hx := hC.x
  have hb := hC.b
  have hown := hC.o
  have hts := hC.ts
  have hlt := hG.2.2.2.2.2
  obtain ⟨cells, hce⟩ : ∃ z : Nat, z = 0 := ⟨0, rfl⟩
  obtain ⟨slots, hsl⟩ : ∃ z : Nat, z = 0 := ⟨0, rfl⟩
  refine W.cs (cells' := cells) (slots' := slots) hce.symm hsl.symm ?_
  have hk : cells + k ≤ k := by omega
  have hn : slots + n ≤ n := by omega
  clear hce hsl
  refine lv_aload_n hx hb dX3_init_0 rfl (lv_at hl 0 rfl) ?_
  obtain ⟨k6, n7, hk1, hn1, hw⟩ := hw
  refine z_callU hZ (vx_runIN (As := []) (rest := []) hC.fix (w_X2_init hlt hw) ⟨va_cnB 0 hts (lw_meth q188) rfl rfl rfl (hC.nw q186 rfl) (hts _ q70) dd_X2_init ⟨Nat.le_of_ble_eq_true rfl, Nat.le_of_ble_eq_true rfl⟩, rfl, hts _ q187⟩ (z_preS hC hZ) rfl rfl hl.1 rfl (lv_room (Nat.zero_le _)) dX3_init_1 ⟨(show cells + k6 ≤ k by omega), (show slots + n7 ≤ n by omega)⟩) (fun r5 M H locs hw1 hZ => ?_) (fun q M H locs ci fs E T9 N9 hw hZ hc1 hM1 hb1 => False.elim hw)
  replace hw := hw1
  clear hw1
  have hk : cells + k6 + (k - k6) ≤ k := by omega
  have hn : slots + n7 + (n - n7) ≤ n := by omega
  generalize cells + k6 = cells at hk ⊢
  generalize slots + n7 = slots at hn ⊢
  clear hk1 hn1
  refine lv_aload_n hx hb dX3_init_4 rfl (lv_at hl 0 rfl) ?_
  refine z_aload_n hC dX3_init_5 rfl (lv_at hl 1 rfl) ?_
  obtain ⟨fs0, hM0, hb0, hk0, hw⟩ := hw
  refine z_putF hC hZ hM0 hb0 zc2 2 (by decide) q287 (fun _ h9 => h9) (by decide) hG.2.2.2.1 rfl zrf_nar zrf_fit hk0 dX3_init_6 (fun H locs hZ => ?_)
  generalize zu M _ _ = M at hw hZ
  exact z_vret hG hZ (by omega) (by omega) hw dX3_init_9
abbrev rm_X5_init (K N : Nat) : Room := { frames := 7, cells := K, slots := N, locals := 193 }
def wp_X5_init (D : zD) (post : Unit → zM → Prop) (k : Nat) (n : Nat) (o : Nat) (M : zM) : Prop :=
    ((∃ k2 n3, k2 ≤ k ∧ n3 ≤ n ∧ wp_X2_init D (fun _ M => post () M) k2 n3 o M))
set_option maxHeartbeats 4000000 in
set_option maxRecDepth 100000 in
theorem w_X5_init {l : Launch} {D : zD} {post : Unit → zM → Prop} (hlt : l.stackTraces = false) {k : Nat} {n : Nat} {o : Nat} {M : zM} (hw : wp_X5_init D post k n o M) : zMet l D yX5_init (ws_ yX5_init cX5_init 1 (none)) (rm_X5_init k n) k n [.ref o] M zU post (fun _ _ => False) := by
  unfold wp_X5_init at hw
  have hlv : lv_args 0 [.ref o] = [(0, .ref o)] := (zargs1 rfl rfl)
  refine z_ofW hlt (by decide) (Nat.le_trans (zsl1 rfl (Nat.le_refl 0 : (lg_sl []).length ≤ 0)) (Nat.le_of_ble_eq_true rfl)) hlv ?_
  intro p e s m args below meth c ls hG hZ hl
  have hC := hG.1
  have hx := hC.x
  have hb := hC.b
  have hown := hC.o
  have hts := hC.ts
  have hlt := hG.2.2.2.2.2
  obtain ⟨cells, hce⟩ : ∃ z : Nat, z = 0 := ⟨0, rfl⟩
  obtain ⟨slots, hsl⟩ : ∃ z : Nat, z = 0 := ⟨0, rfl⟩
  refine W.cs (cells' := cells) (slots' := slots) hce.symm hsl.symm ?_
  have hk : cells + k ≤ k := by omega
  have hn : slots + n ≤ n := by omega
  clear hce hsl
  refine lv_aload_n hx hb dX5_init_0 rfl (lv_at hl 0 rfl) ?_
  obtain ⟨k5, n6, hk1, hn1, hw⟩ := hw
  refine z_callU hZ (vx_runIN (As := []) (rest := []) hC.fix (w_X2_init hlt hw) ⟨va_cnB 0 hts (lw_meth q188) rfl rfl rfl (hC.nw q356 rfl) (hts _ q70) dd_X2_init ⟨Nat.le_of_ble_eq_true rfl, Nat.le_of_ble_eq_true rfl⟩, rfl, hts _ q187⟩ (z_preS hC hZ) rfl rfl hl.1 rfl (lv_room (Nat.zero_le _)) dX5_init_1 ⟨(show cells + k5 ≤ k by omega), (show slots + n6 ≤ n by omega)⟩) (fun r4 M H locs hw1 hZ => ?_) (fun q M H locs ci fs E T9 N9 hw hZ hc1 hM1 hb1 => False.elim hw)
  replace hw := hw1
  clear hw1
  have hk : cells + k5 + (k - k5) ≤ k := by omega
  have hn : slots + n6 + (n - n6) ≤ n := by omega
  generalize cells + k5 = cells at hk ⊢
  generalize slots + n6 = slots at hn ⊢
  clear hk1 hn1
  exact z_vret hG hZ (by omega) (by omega) hw dX5_init_4
abbrev rm_X6_init (K N : Nat) : Room := { frames := 7, cells := K, slots := N, locals := 193 }
def wp_X6_init (D : zD) (post : Unit → zM → Prop) (k : Nat) (n : Nat) (o : Nat) (M : zM) : Prop :=
    ((∃ k2 n3, k2 ≤ k ∧ n3 ≤ n ∧ wp_X2_init D (fun _ M => post () M) k2 n3 o M))
set_option maxHeartbeats 4000000 in
set_option maxRecDepth 100000 in
theorem w_X6_init {l : Launch} {D : zD} {post : Unit → zM → Prop} (hlt : l.stackTraces = false) {k : Nat} {n : Nat} {o : Nat} {M : zM} (hw : wp_X6_init D post k n o M) : zMet l D yX6_init (ws_ yX6_init cX6_init 1 (none)) (rm_X6_init k n) k n [.ref o] M zU post (fun _ _ => False) := by
  unfold wp_X6_init at hw
  have hlv : lv_args 0 [.ref o] = [(0, .ref o)] := (zargs1 rfl rfl)
  refine z_ofW hlt (by decide) (Nat.le_trans (zsl1 rfl (Nat.le_refl 0 : (lg_sl []).length ≤ 0)) (Nat.le_of_ble_eq_true rfl)) hlv ?_
  intro p e s m args below meth c ls hG hZ hl
  have hC := hG.1
  have hx := hC.x
  have hb := hC.b
  have hown := hC.o
  have hts := hC.ts
  have hlt := hG.2.2.2.2.2
  obtain ⟨cells, hce⟩ : ∃ z : Nat, z = 0 := ⟨0, rfl⟩
  obtain ⟨slots, hsl⟩ : ∃ z : Nat, z = 0 := ⟨0, rfl⟩
  refine W.cs (cells' := cells) (slots' := slots) hce.symm hsl.symm ?_
  have hk : cells + k ≤ k := by omega
  have hn : slots + n ≤ n := by omega
  clear hce hsl
  refine lv_aload_n hx hb dX6_init_0 rfl (lv_at hl 0 rfl) ?_
  obtain ⟨k5, n6, hk1, hn1, hw⟩ := hw
  refine z_callU hZ (vx_runIN (As := []) (rest := []) hC.fix (w_X2_init hlt hw) ⟨va_cnB 0 hts (lw_meth q188) rfl rfl rfl (hC.nw q368 rfl) (hts _ q70) dd_X2_init ⟨Nat.le_of_ble_eq_true rfl, Nat.le_of_ble_eq_true rfl⟩, rfl, hts _ q187⟩ (z_preS hC hZ) rfl rfl hl.1 rfl (lv_room (Nat.zero_le _)) dX6_init_1 ⟨(show cells + k5 ≤ k by omega), (show slots + n6 ≤ n by omega)⟩) (fun r4 M H locs hw1 hZ => ?_) (fun q M H locs ci fs E T9 N9 hw hZ hc1 hM1 hb1 => False.elim hw)
  replace hw := hw1
  clear hw1
  have hk : cells + k5 + (k - k5) ≤ k := by omega
  have hn : slots + n6 + (n - n6) ≤ n := by omega
  generalize cells + k5 = cells at hk ⊢
  generalize slots + n6 = slots at hn ⊢
  clear hk1 hn1
  exact z_vret hG hZ (by omega) (by omega) hw dX6_init_4
abbrev rm_X7_init (K N : Nat) : Room := { frames := 7, cells := K, slots := N, locals := 193 }
def wp_X7_init (D : zD) (post : Unit → zM → Prop) (k : Nat) (n : Nat) (o : Nat) (M : zM) : Prop :=
    ((∃ k2 n3, k2 ≤ k ∧ n3 ≤ n ∧ wp_X2_init D (fun _ M => post () M) k2 n3 o M))
set_option maxHeartbeats 4000000 in
set_option maxRecDepth 100000 in
theorem w_X7_init {l : Launch} {D : zD} {post : Unit → zM → Prop} (hlt : l.stackTraces = false) {k : Nat} {n : Nat} {o : Nat} {M : zM} (hw : wp_X7_init D post k n o M) : zMet l D yX7_init (ws_ yX7_init cX7_init 1 (none)) (rm_X7_init k n) k n [.ref o] M zU post (fun _ _ => False) := by
  unfold wp_X7_init at hw
  have hlv : lv_args 0 [.ref o] = [(0, .ref o)] := (zargs1 rfl rfl)
  refine z_ofW hlt (by decide) (Nat.le_trans (zsl1 rfl (Nat.le_refl 0 : (lg_sl []).length ≤ 0)) (Nat.le_of_ble_eq_true rfl)) hlv ?_
  intro p e s m args below meth c ls hG hZ hl
  have hC := hG.1
  have hx := hC.x
  have hb := hC.b
  have hown := hC.o
  have hts := hC.ts
  have hlt := hG.2.2.2.2.2
  obtain ⟨cells, hce⟩ : ∃ z : Nat, z = 0 := ⟨0, rfl⟩
  obtain ⟨slots, hsl⟩ : ∃ z : Nat, z = 0 := ⟨0, rfl⟩
  refine W.cs (cells' := cells) (slots' := slots) hce.symm hsl.symm ?_
  have hk : cells + k ≤ k := by omega
  have hn : slots + n ≤ n := by omega
  clear hce hsl
  refine lv_aload_n hx hb dX7_init_0 rfl (lv_at hl 0 rfl) ?_
  obtain ⟨k5, n6, hk1, hn1, hw⟩ := hw
  refine z_callU hZ (vx_runIN (As := []) (rest := []) hC.fix (w_X2_init hlt hw) ⟨va_cnB 0 hts (lw_meth q188) rfl rfl rfl (hC.nw q377 rfl) (hts _ q70) dd_X2_init ⟨Nat.le_of_ble_eq_true rfl, Nat.le_of_ble_eq_true rfl⟩, rfl, hts _ q187⟩ (z_preS hC hZ) rfl rfl hl.1 rfl (lv_room (Nat.zero_le _)) dX7_init_1 ⟨(show cells + k5 ≤ k by omega), (show slots + n6 ≤ n by omega)⟩) (fun r4 M H locs hw1 hZ => ?_) (fun q M H locs ci fs E T9 N9 hw hZ hc1 hM1 hb1 => False.elim hw)
  replace hw := hw1
  clear hw1
  have hk : cells + k5 + (k - k5) ≤ k := by omega
  have hn : slots + n6 + (n - n6) ≤ n := by omega
  generalize cells + k5 = cells at hk ⊢
  generalize slots + n6 = slots at hn ⊢
  clear hk1 hn1
  exact z_vret hG hZ (by omega) (by omega) hw dX7_init_4
abbrev rm_X0_languageOf (K N : Nat) : Room := { frames := 9, cells := K, slots := N, locals := 238 }
def wp_X0_languageOf (D : zD) (post : Option Nat → zM → Prop) (k : Nat) (n : Nat) (a0 : Int32) (M : zM) : Prop :=
    ((a0 = 1 → (znew D M 2 3 [.null, .null, .null] k n fun b1 M => ((∃ k3 n4, k3 ≤ (k - 1) ∧ n4 ≤ (n - 3) ∧ wp_X3_init D (fun _ M => post (some b1) M) k3 n4 b1 (some (D.2.2.2 (10 + 0))) M)))) ∧ (a0 = 2 → (znew D M 2 3 [.null, .null, .null] k n fun b5 M => ((∃ k7 n8, k7 ≤ (k - 1) ∧ n8 ≤ (n - 3) ∧ wp_X3_init D (fun _ M => (znewA D M 0 (6 : Int32) ((k - 1) - k7) ((n - 3) - n8) fun b9 M => (zsI D M b9 (0 : Int32) (3 : Int32) fun M => (zsI D M b9 (1 : Int32) (0 : Int32) fun M => (zsI D M b9 (2 : Int32) (1 : Int32) fun M => (zsI D M b9 (3 : Int32) (0 : Int32) fun M => (zsI D M b9 (4 : Int32) (0 : Int32) fun M => (zsI D M b9 (5 : Int32) (0 : Int32) fun M => ((zis M b5 [2] ∧ (∃ k11 n12, k11 ≤ (((k - 1) - k7) - 1) ∧ n12 ≤ (((n - 3) - n8) - (6 : Int32).toNatClampNeg) ∧ wp_X2_with D (fun r10 M => (znewA D M 0 (6 : Int32) ((((k - 1) - k7) - 1) - k11) ((((n - 3) - n8) - (6 : Int32).toNatClampNeg) - n12) fun b13 M => (zsI D M b13 (0 : Int32) (3 : Int32) fun M => (zsI D M b13 (1 : Int32) (0 : Int32) fun M => (zsI D M b13 (2 : Int32) (0 : Int32) fun M => (zsI D M b13 (3 : Int32) (10 : Int32) fun M => (zsI D M b13 (4 : Int32) (2 : Int32) fun M => (zsI D M b13 (5 : Int32) (4 : Int32) fun M => ((zd r10 fun b14 => (zis M b14 [2, 4, 5, 6] ∧ (∃ k16 n17, k16 ≤ (((((k - 1) - k7) - 1) - k11) - 1) ∧ n17 ≤ (((((n - 3) - n8) - (6 : Int32).toNatClampNeg) - n12) - (6 : Int32).toNatClampNeg) ∧ wp_X2_with D (fun r15 M => (znewA D M 0 (6 : Int32) ((((((k - 1) - k7) - 1) - k11) - 1) - k16) ((((((n - 3) - n8) - (6 : Int32).toNatClampNeg) - n12) - (6 : Int32).toNatClampNeg) - n17) fun b18 M => (zsI D M b18 (0 : Int32) (3 : Int32) fun M => (zsI D M b18 (1 : Int32) (0 : Int32) fun M => (zsI D M b18 (2 : Int32) (0 : Int32) fun M => (zsI D M b18 (3 : Int32) (100 : Int32) fun M => (zsI D M b18 (4 : Int32) (12 : Int32) fun M => (zsI D M b18 (5 : Int32) (14 : Int32) fun M => ((zd r15 fun b19 => (zis M b19 [2, 4, 5, 6] ∧ (∃ k21 n22, k21 ≤ (((((((k - 1) - k7) - 1) - k11) - 1) - k16) - 1) ∧ n22 ≤ (((((((n - 3) - n8) - (6 : Int32).toNatClampNeg) - n12) - (6 : Int32).toNatClampNeg) - n17) - (6 : Int32).toNatClampNeg) ∧ wp_X2_with D (fun r20 M => (znewA D M 0 (6 : Int32) ((((((((k - 1) - k7) - 1) - k11) - 1) - k16) - 1) - k21) ((((((((n - 3) - n8) - (6 : Int32).toNatClampNeg) - n12) - (6 : Int32).toNatClampNeg) - n17) - (6 : Int32).toNatClampNeg) - n22) fun b23 M => (zsI D M b23 (0 : Int32) (4 : Int32) fun M => (zsI D M b23 (1 : Int32) (0 : Int32) fun M => (zsI D M b23 (2 : Int32) (1 : Int32) fun M => (zsI D M b23 (3 : Int32) (0 : Int32) fun M => (zsI D M b23 (4 : Int32) (0 : Int32) fun M => (zsI D M b23 (5 : Int32) (0 : Int32) fun M => ((zd r20 fun b24 => (zis M b24 [2, 4, 5, 6] ∧ (∃ k26 n27, k26 ≤ (((((((((k - 1) - k7) - 1) - k11) - 1) - k16) - 1) - k21) - 1) ∧ n27 ≤ (((((((((n - 3) - n8) - (6 : Int32).toNatClampNeg) - n12) - (6 : Int32).toNatClampNeg) - n17) - (6 : Int32).toNatClampNeg) - n22) - (6 : Int32).toNatClampNeg) ∧ wp_X2_with D (fun r25 M => post r25 M) k26 n27 b24 (0 : Int32) (some b23) M)))))))))))) k21 n22 b19 (1 : Int32) (some b18) M)))))))))))) k16 n17 b14 (0 : Int32) (some b13) M)))))))))))) k11 n12 b5 (0 : Int32) (some b9) M))))))))))) k7 n8 b5 (some (D.2.2.2 (10 + 1))) M)))) ∧ (a0 = 3 → (znew D M 2 3 [.null, .null, .null] k n fun b28 M => ((∃ k30 n31, k30 ≤ (k - 1) ∧ n31 ≤ (n - 3) ∧ wp_X3_init D (fun _ M => (znewA D M 0 (6 : Int32) ((k - 1) - k30) ((n - 3) - n31) fun b32 M => (zsI D M b32 (0 : Int32) (0 : Int32) fun M => (zsI D M b32 (1 : Int32) (0 : Int32) fun M => (zsI D M b32 (2 : Int32) (1 : Int32) fun M => (zsI D M b32 (3 : Int32) (0 : Int32) fun M => (zsI D M b32 (4 : Int32) (0 : Int32) fun M => (zsI D M b32 (5 : Int32) (0 : Int32) fun M => ((zis M b28 [2] ∧ (∃ k34 n35, k34 ≤ (((k - 1) - k30) - 1) ∧ n35 ≤ (((n - 3) - n31) - (6 : Int32).toNatClampNeg) ∧ wp_X2_with D (fun r33 M => (znewA D M 0 (6 : Int32) ((((k - 1) - k30) - 1) - k34) ((((n - 3) - n31) - (6 : Int32).toNatClampNeg) - n35) fun b36 M => (zsI D M b36 (0 : Int32) (0 : Int32) fun M => (zsI D M b36 (1 : Int32) (0 : Int32) fun M => (zsI D M b36 (2 : Int32) (0 : Int32) fun M => (zsI D M b36 (3 : Int32) (10 : Int32) fun M => (zsI D M b36 (4 : Int32) (0 : Int32) fun M => (zsI D M b36 (5 : Int32) (0 : Int32) fun M => ((zd r33 fun b37 => (zis M b37 [2, 4, 5, 6] ∧ (∃ k39 n40, k39 ≤ (((((k - 1) - k30) - 1) - k34) - 1) ∧ n40 ≤ (((((n - 3) - n31) - (6 : Int32).toNatClampNeg) - n35) - (6 : Int32).toNatClampNeg) ∧ wp_X2_with D (fun r38 M => (znewA D M 0 (6 : Int32) ((((((k - 1) - k30) - 1) - k34) - 1) - k39) ((((((n - 3) - n31) - (6 : Int32).toNatClampNeg) - n35) - (6 : Int32).toNatClampNeg) - n40) fun b41 M => (zsI D M b41 (0 : Int32) (0 : Int32) fun M => (zsI D M b41 (1 : Int32) (1 : Int32) fun M => (zsI D M b41 (2 : Int32) (1 : Int32) fun M => (zsI D M b41 (3 : Int32) (0 : Int32) fun M => (zsI D M b41 (4 : Int32) (0 : Int32) fun M => (zsI D M b41 (5 : Int32) (0 : Int32) fun M => ((zd r38 fun b42 => (zis M b42 [2, 4, 5, 6] ∧ (∃ k44 n45, k44 ≤ (((((((k - 1) - k30) - 1) - k34) - 1) - k39) - 1) ∧ n45 ≤ (((((((n - 3) - n31) - (6 : Int32).toNatClampNeg) - n35) - (6 : Int32).toNatClampNeg) - n40) - (6 : Int32).toNatClampNeg) ∧ wp_X2_with D (fun r43 M => (znewA D M 0 (6 : Int32) ((((((((k - 1) - k30) - 1) - k34) - 1) - k39) - 1) - k44) ((((((((n - 3) - n31) - (6 : Int32).toNatClampNeg) - n35) - (6 : Int32).toNatClampNeg) - n40) - (6 : Int32).toNatClampNeg) - n45) fun b46 M => (zsI D M b46 (0 : Int32) (0 : Int32) fun M => (zsI D M b46 (1 : Int32) (1 : Int32) fun M => (zsI D M b46 (2 : Int32) (0 : Int32) fun M => (zsI D M b46 (3 : Int32) (100 : Int32) fun M => (zsI D M b46 (4 : Int32) (11 : Int32) fun M => (zsI D M b46 (5 : Int32) (19 : Int32) fun M => ((zd r43 fun b47 => (zis M b47 [2, 4, 5, 6] ∧ (∃ k49 n50, k49 ≤ (((((((((k - 1) - k30) - 1) - k34) - 1) - k39) - 1) - k44) - 1) ∧ n50 ≤ (((((((((n - 3) - n31) - (6 : Int32).toNatClampNeg) - n35) - (6 : Int32).toNatClampNeg) - n40) - (6 : Int32).toNatClampNeg) - n45) - (6 : Int32).toNatClampNeg) ∧ wp_X2_with D (fun r48 M => (znewA D M 0 (6 : Int32) ((((((((((k - 1) - k30) - 1) - k34) - 1) - k39) - 1) - k44) - 1) - k49) ((((((((((n - 3) - n31) - (6 : Int32).toNatClampNeg) - n35) - (6 : Int32).toNatClampNeg) - n40) - (6 : Int32).toNatClampNeg) - n45) - (6 : Int32).toNatClampNeg) - n50) fun b51 M => (zsI D M b51 (0 : Int32) (1 : Int32) fun M => (zsI D M b51 (1 : Int32) (0 : Int32) fun M => (zsI D M b51 (2 : Int32) (1 : Int32) fun M => (zsI D M b51 (3 : Int32) (0 : Int32) fun M => (zsI D M b51 (4 : Int32) (0 : Int32) fun M => (zsI D M b51 (5 : Int32) (0 : Int32) fun M => ((zd r48 fun b52 => (zis M b52 [2, 4, 5, 6] ∧ (∃ k54 n55, k54 ≤ (((((((((((k - 1) - k30) - 1) - k34) - 1) - k39) - 1) - k44) - 1) - k49) - 1) ∧ n55 ≤ (((((((((((n - 3) - n31) - (6 : Int32).toNatClampNeg) - n35) - (6 : Int32).toNatClampNeg) - n40) - (6 : Int32).toNatClampNeg) - n45) - (6 : Int32).toNatClampNeg) - n50) - (6 : Int32).toNatClampNeg) ∧ wp_X2_with D (fun r53 M => (znewA D M 0 (6 : Int32) ((((((((((((k - 1) - k30) - 1) - k34) - 1) - k39) - 1) - k44) - 1) - k49) - 1) - k54) ((((((((((((n - 3) - n31) - (6 : Int32).toNatClampNeg) - n35) - (6 : Int32).toNatClampNeg) - n40) - (6 : Int32).toNatClampNeg) - n45) - (6 : Int32).toNatClampNeg) - n50) - (6 : Int32).toNatClampNeg) - n55) fun b56 M => (zsI D M b56 (0 : Int32) (1 : Int32) fun M => (zsI D M b56 (1 : Int32) (0 : Int32) fun M => (zsI D M b56 (2 : Int32) (0 : Int32) fun M => (zsI D M b56 (3 : Int32) (10 : Int32) fun M => (zsI D M b56 (4 : Int32) (1 : Int32) fun M => (zsI D M b56 (5 : Int32) (1 : Int32) fun M => ((zd r53 fun b57 => (zis M b57 [2, 4, 5, 6] ∧ (∃ k59 n60, k59 ≤ (((((((((((((k - 1) - k30) - 1) - k34) - 1) - k39) - 1) - k44) - 1) - k49) - 1) - k54) - 1) ∧ n60 ≤ (((((((((((((n - 3) - n31) - (6 : Int32).toNatClampNeg) - n35) - (6 : Int32).toNatClampNeg) - n40) - (6 : Int32).toNatClampNeg) - n45) - (6 : Int32).toNatClampNeg) - n50) - (6 : Int32).toNatClampNeg) - n55) - (6 : Int32).toNatClampNeg) ∧ wp_X2_with D (fun r58 M => (znewA D M 0 (6 : Int32) ((((((((((((((k - 1) - k30) - 1) - k34) - 1) - k39) - 1) - k44) - 1) - k49) - 1) - k54) - 1) - k59) ((((((((((((((n - 3) - n31) - (6 : Int32).toNatClampNeg) - n35) - (6 : Int32).toNatClampNeg) - n40) - (6 : Int32).toNatClampNeg) - n45) - (6 : Int32).toNatClampNeg) - n50) - (6 : Int32).toNatClampNeg) - n55) - (6 : Int32).toNatClampNeg) - n60) fun b61 M => (zsI D M b61 (0 : Int32) (1 : Int32) fun M => (zsI D M b61 (1 : Int32) (1 : Int32) fun M => (zsI D M b61 (2 : Int32) (1 : Int32) fun M => (zsI D M b61 (3 : Int32) (0 : Int32) fun M => (zsI D M b61 (4 : Int32) (0 : Int32) fun M => (zsI D M b61 (5 : Int32) (0 : Int32) fun M => ((zd r58 fun b62 => (zis M b62 [2, 4, 5, 6] ∧ (∃ k64 n65, k64 ≤ (((((((((((((((k - 1) - k30) - 1) - k34) - 1) - k39) - 1) - k44) - 1) - k49) - 1) - k54) - 1) - k59) - 1) ∧ n65 ≤ (((((((((((((((n - 3) - n31) - (6 : Int32).toNatClampNeg) - n35) - (6 : Int32).toNatClampNeg) - n40) - (6 : Int32).toNatClampNeg) - n45) - (6 : Int32).toNatClampNeg) - n50) - (6 : Int32).toNatClampNeg) - n55) - (6 : Int32).toNatClampNeg) - n60) - (6 : Int32).toNatClampNeg) ∧ wp_X2_with D (fun r63 M => (znewA D M 0 (6 : Int32) ((((((((((((((((k - 1) - k30) - 1) - k34) - 1) - k39) - 1) - k44) - 1) - k49) - 1) - k54) - 1) - k59) - 1) - k64) ((((((((((((((((n - 3) - n31) - (6 : Int32).toNatClampNeg) - n35) - (6 : Int32).toNatClampNeg) - n40) - (6 : Int32).toNatClampNeg) - n45) - (6 : Int32).toNatClampNeg) - n50) - (6 : Int32).toNatClampNeg) - n55) - (6 : Int32).toNatClampNeg) - n60) - (6 : Int32).toNatClampNeg) - n65) fun b66 M => (zsI D M b66 (0 : Int32) (1 : Int32) fun M => (zsI D M b66 (1 : Int32) (1 : Int32) fun M => (zsI D M b66 (2 : Int32) (2 : Int32) fun M => (zsI D M b66 (3 : Int32) (10 : Int32) fun M => (zsI D M b66 (4 : Int32) (1 : Int32) fun M => (zsI D M b66 (5 : Int32) (1 : Int32) fun M => ((zd r63 fun b67 => (zis M b67 [2, 4, 5, 6] ∧ (∃ k69 n70, k69 ≤ (((((((((((((((((k - 1) - k30) - 1) - k34) - 1) - k39) - 1) - k44) - 1) - k49) - 1) - k54) - 1) - k59) - 1) - k64) - 1) ∧ n70 ≤ (((((((((((((((((n - 3) - n31) - (6 : Int32).toNatClampNeg) - n35) - (6 : Int32).toNatClampNeg) - n40) - (6 : Int32).toNatClampNeg) - n45) - (6 : Int32).toNatClampNeg) - n50) - (6 : Int32).toNatClampNeg) - n55) - (6 : Int32).toNatClampNeg) - n60) - (6 : Int32).toNatClampNeg) - n65) - (6 : Int32).toNatClampNeg) ∧ wp_X2_with D (fun r68 M => post r68 M) k69 n70 b67 (0 : Int32) (some b66) M)))))))))))) k64 n65 b62 (1 : Int32) (some b61) M)))))))))))) k59 n60 b57 (0 : Int32) (some b56) M)))))))))))) k54 n55 b52 (0 : Int32) (some b51) M)))))))))))) k49 n50 b47 (0 : Int32) (some b46) M)))))))))))) k44 n45 b42 (0 : Int32) (some b41) M)))))))))))) k39 n40 b37 (0 : Int32) (some b36) M)))))))))))) k34 n35 b28 (0 : Int32) (some b32) M))))))))))) k30 n31 b28 (some (D.2.2.2 (10 + 2))) M)))) ∧ (a0 = 4 → (znew D M 4 2 [.null, .null] k n fun b71 M => ((∃ k73 n74, k73 ≤ (k - 1) ∧ n74 ≤ (n - 2) ∧ wp_X5_init D (fun _ M => (znewA D M 0 (6 : Int32) ((k - 1) - k73) ((n - 2) - n74) fun b75 M => (zsI D M b75 (0 : Int32) (4 : Int32) fun M => (zsI D M b75 (1 : Int32) (0 : Int32) fun M => (zsI D M b75 (2 : Int32) (1 : Int32) fun M => (zsI D M b75 (3 : Int32) (0 : Int32) fun M => (zsI D M b75 (4 : Int32) (0 : Int32) fun M => (zsI D M b75 (5 : Int32) (0 : Int32) fun M => ((zis M b71 [4] ∧ (∃ k77 n78, k77 ≤ (((k - 1) - k73) - 1) ∧ n78 ≤ (((n - 2) - n74) - (6 : Int32).toNatClampNeg) ∧ wp_X2_with D (fun r76 M => post r76 M) k77 n78 b71 (0 : Int32) (some b75) M))))))))))) k73 n74 b71 M)))) ∧ (a0 = 5 → (znew D M 5 2 [.null, .null] k n fun b79 M => ((∃ k81 n82, k81 ≤ (k - 1) ∧ n82 ≤ (n - 2) ∧ wp_X6_init D (fun _ M => post (some b79) M) k81 n82 b79 M)))) ∧ (¬ a0 = 1 ∧ ¬ a0 = 2 ∧ ¬ a0 = 3 ∧ ¬ a0 = 4 ∧ ¬ a0 = 5 → (znew D M 6 2 [.null, .null] k n fun b83 M => ((∃ k85 n86, k85 ≤ (k - 1) ∧ n86 ≤ (n - 2) ∧ wp_X7_init D (fun _ M => post (some b83) M) k85 n86 b83 M)))))
set_option maxHeartbeats 4000000 in
set_option maxRecDepth 100000 in
theorem w_X0_languageOf {l : Launch} {D : zD} {post : Option Nat → zM → Prop} (hlt : l.stackTraces = false) {k : Nat} {n : Nat} {a0 : Int32} {M : zM} (hw : wp_X0_languageOf D post k n a0 M) : zMet l D yX0_languageOf (ws_ yX0_languageOf cX0_languageOf 1 (some (.object "PluralBranches$Language"))) (rm_X0_languageOf k n) k n [.int a0] M zR post (fun _ _ => False) := by
  unfold wp_X0_languageOf at hw
  have hlv : lv_args 0 [.int a0] = [(0, .int a0)] := (zargs1 rfl rfl)
  refine z_ofW hlt (by decide) (Nat.le_trans (zsl1 rfl (Nat.le_refl 0 : (lg_sl []).length ≤ 0)) (Nat.le_of_ble_eq_true rfl)) hlv ?_
  intro p e s m args below meth c ls hG hZ hl
  have hC := hG.1
  have hx := hC.x
  have hb := hC.b
  have hown := hC.o
  have hts := hC.ts
  have hlt := hG.2.2.2.2.2
  obtain ⟨cells, hce⟩ : ∃ z : Nat, z = 0 := ⟨0, rfl⟩
  obtain ⟨slots, hsl⟩ : ∃ z : Nat, z = 0 := ⟨0, rfl⟩
  refine W.cs (cells' := cells) (slots' := slots) hce.symm hsl.symm ?_
  have hk : cells + k ≤ k := by omega
  have hn : slots + n ≤ n := by omega
  clear hce hsl
  refine lv_iload_n hx hb dX0_languageOf_0 rfl (lv_at hl 0 rfl) ?_
  by_cases e178 : a0 = 1
  · replace hw := hw.1 e178
    refine lv_tableIn (tgt := 36) (off := 35) hx hb dX0_languageOf_1 (by rw [e178]; decide) (by rw [e178]; decide) (by rw [e178]; decide) (by decide) ?_
    obtain ⟨hk1, hn1, hw⟩ := hw
    refine z_new (fs := [.null, .null, .null]) hC hZ zc2 q180 q181 q71 (zdefs (N := 3) (ty := tyX3) (fs := [.null, .null, .null]) (by decide)) (show cells + 1 ≤ k by omega) (show slots + 3 ≤ n by omega) dX0_languageOf_36 (fun b92 H hq0 hq1 hZ => ?_)
    replace hw := hw b92 hq0 hq1
    generalize zu M _ _ = M at hw hZ
    have hk : cells + 1 + (k - 1) ≤ k := by omega
    have hn : slots + 3 + (n - 3) ≤ n := by omega
    generalize cells + 1 = cells at hk ⊢
    generalize slots + 3 = slots at hn ⊢
    clear hk1 hn1
    refine lv_dup hx hb dX0_languageOf_39 rfl ?_
    refine z_ldcS (i := 0) hC rfl dX0_languageOf_40 ?_
    obtain ⟨k94, n95, hk1, hn1, hw⟩ := hw
    refine z_callU hZ (vx_runI (As := [.ref (D.2.2.2 (10 + 0))]) (rest := [.ref b92]) hC.fix (w_X3_init hlt hw) (cwI 1 hts (lw_meth q185) rfl rfl rfl (hts _ q71) (hts _ q183) (hts _ q184) rfl dd_X3_init ⟨Nat.le_of_ble_eq_true rfl, Nat.le_of_ble_eq_true rfl⟩) (z_preS hC hZ) rfl rfl hl.1 rfl (lv_room (Nat.le_trans (zrm1 rfl zrm0) (Nat.le_of_ble_eq_true rfl))) dX0_languageOf_42 ⟨(show cells + k94 ≤ k by omega), (show slots + n95 ≤ n by omega)⟩) (fun r93 M H locs hw1 hZ => ?_) (fun q M H locs ci fs E T9 N9 hw hZ hc1 hM1 hb1 => False.elim hw)
    replace hw := hw1
    clear hw1
    have hk : cells + k94 + ((k - 1) - k94) ≤ k := by omega
    have hn : slots + n95 + ((n - 3) - n95) ≤ n := by omega
    generalize cells + k94 = cells at hk ⊢
    generalize slots + n95 = slots at hn ⊢
    clear hk1 hn1
    exact z_aret (r := (some b92)) hG (Or.inl ⟨_, rfl⟩) hZ (by omega) (by omega) hw dX0_languageOf_45
  by_cases e179 : a0 = 2
  · replace hw := hw.2.1 e179
    refine lv_tableIn (tgt := 46) (off := 45) hx hb dX0_languageOf_1 (by rw [e179]; decide) (by rw [e179]; decide) (by rw [e179]; decide) (by decide) ?_
    obtain ⟨hk1, hn1, hw⟩ := hw
    refine z_new (fs := [.null, .null, .null]) hC hZ zc2 q180 q181 q71 (zdefs (N := 3) (ty := tyX3) (fs := [.null, .null, .null]) (by decide)) (show cells + 1 ≤ k by omega) (show slots + 3 ≤ n by omega) dX0_languageOf_46 (fun b96 H hq0 hq1 hZ => ?_)
    replace hw := hw b96 hq0 hq1
    generalize zu M _ _ = M at hw hZ
    have hk : cells + 1 + (k - 1) ≤ k := by omega
    have hn : slots + 3 + (n - 3) ≤ n := by omega
    generalize cells + 1 = cells at hk ⊢
    generalize slots + 3 = slots at hn ⊢
    clear hk1 hn1
    refine lv_dup hx hb dX0_languageOf_49 rfl ?_
    refine z_ldcS (i := 1) hC rfl dX0_languageOf_50 ?_
    obtain ⟨k98, n99, hk1, hn1, hw⟩ := hw
    refine z_callU hZ (vx_runI (As := [.ref (D.2.2.2 (10 + 1))]) (rest := [.ref b96]) hC.fix (w_X3_init hlt hw) (cwI 1 hts (lw_meth q185) rfl rfl rfl (hts _ q71) (hts _ q183) (hts _ q184) rfl dd_X3_init ⟨Nat.le_of_ble_eq_true rfl, Nat.le_of_ble_eq_true rfl⟩) (z_preS hC hZ) rfl rfl hl.1 rfl (lv_room (Nat.le_trans (zrm1 rfl zrm0) (Nat.le_of_ble_eq_true rfl))) dX0_languageOf_52 ⟨(show cells + k98 ≤ k by omega), (show slots + n99 ≤ n by omega)⟩) (fun r97 M H locs hw1 hZ => ?_) (fun q M H locs ci fs E T9 N9 hw hZ hc1 hM1 hb1 => False.elim hw)
    replace hw := hw1
    clear hw1
    have hk : cells + k98 + ((k - 1) - k98) ≤ k := by omega
    have hn : slots + n99 + ((n - 3) - n99) ≤ n := by omega
    generalize cells + k98 = cells at hk ⊢
    generalize slots + n99 = slots at hn ⊢
    clear hk1 hn1
    refine lv_iconst (v := 0) hx hb dX0_languageOf_55 (by decide) ?_
    refine lv_bipush (v := 6) hx hb dX0_languageOf_56 (by decide) ?_
    obtain ⟨hx1, hx2, hk1, hn1, hw⟩ := hw
    refine z_newa (k := 0) (a0 := zna 0 (6 : Int32).toNatClampNeg) (atype := .int) hC hZ q336 rfl (by decide) (fun _ => rfl) hx1 rfl (z_bytes hx2 (by decide)) (show cells + 1 ≤ k by omega) (show slots + (6 : Int32).toNatClampNeg ≤ n by omega) dX0_languageOf_58 (fun b100 H hq0 hq1 hZ => ?_)
    replace hw := hw b100 hq0 hq1
    replace hZ : zS D (zu M b100 (some (.inl (0, zna 0 (6 : Int32).toNatClampNeg)))) _ _ := hZ
    refine W.cs (cells' := cells + 1) (slots' := slots + (6 : Int32).toNatClampNeg) rfl rfl ?_
    generalize zu M _ _ = M at hw hZ
    have hk : cells + 1 + (((k - 1) - k98) - 1) ≤ k := by omega
    have hn : slots + (6 : Int32).toNatClampNeg + (((n - 3) - n99) - (6 : Int32).toNatClampNeg) ≤ n := by omega
    generalize cells + 1 = cells at hk ⊢
    generalize slots + (6 : Int32).toNatClampNeg = slots at hn ⊢
    clear hk1 hn1 hx1 hx2
    refine lv_dup hx hb dX0_languageOf_60 rfl ?_
    refine lv_iconst (v := 0) hx hb dX0_languageOf_61 (by decide) ?_
    refine lv_iconst (v := 3) hx hb dX0_languageOf_62 (by decide) ?_
    obtain ⟨n0, f0, hM0, hb0, hi0, hw⟩ := hw
    refine z_iast hC hZ hM0 hb0 hi0 dX0_languageOf_63 (fun H locs hZ => ?_)
    generalize zu M _ _ = M at hw hZ
    refine lv_dup hx hb dX0_languageOf_64 rfl ?_
    refine lv_iconst (v := 1) hx hb dX0_languageOf_65 (by decide) ?_
    refine lv_iconst (v := 0) hx hb dX0_languageOf_66 (by decide) ?_
    obtain ⟨n0, f0, hM0, hb0, hi0, hw⟩ := hw
    refine z_iast hC hZ hM0 hb0 hi0 dX0_languageOf_67 (fun H locs hZ => ?_)
    generalize zu M _ _ = M at hw hZ
    refine lv_dup hx hb dX0_languageOf_68 rfl ?_
    refine lv_iconst (v := 2) hx hb dX0_languageOf_69 (by decide) ?_
    refine lv_iconst (v := 1) hx hb dX0_languageOf_70 (by decide) ?_
    obtain ⟨n0, f0, hM0, hb0, hi0, hw⟩ := hw
    refine z_iast hC hZ hM0 hb0 hi0 dX0_languageOf_71 (fun H locs hZ => ?_)
    generalize zu M _ _ = M at hw hZ
    refine lv_dup hx hb dX0_languageOf_72 rfl ?_
    refine lv_iconst (v := 3) hx hb dX0_languageOf_73 (by decide) ?_
    refine lv_iconst (v := 0) hx hb dX0_languageOf_74 (by decide) ?_
    obtain ⟨n0, f0, hM0, hb0, hi0, hw⟩ := hw
    refine z_iast hC hZ hM0 hb0 hi0 dX0_languageOf_75 (fun H locs hZ => ?_)
    generalize zu M _ _ = M at hw hZ
    refine lv_dup hx hb dX0_languageOf_76 rfl ?_
    refine lv_iconst (v := 4) hx hb dX0_languageOf_77 (by decide) ?_
    refine lv_iconst (v := 0) hx hb dX0_languageOf_78 (by decide) ?_
    obtain ⟨n0, f0, hM0, hb0, hi0, hw⟩ := hw
    refine z_iast hC hZ hM0 hb0 hi0 dX0_languageOf_79 (fun H locs hZ => ?_)
    generalize zu M _ _ = M at hw hZ
    refine lv_dup hx hb dX0_languageOf_80 rfl ?_
    refine lv_iconst (v := 5) hx hb dX0_languageOf_81 (by decide) ?_
    refine lv_iconst (v := 0) hx hb dX0_languageOf_82 (by decide) ?_
    obtain ⟨n0, f0, hM0, hb0, hi0, hw⟩ := hw
    refine z_iast hC hZ hM0 hb0 hi0 dX0_languageOf_83 (fun H locs hZ => ?_)
    generalize zu M _ _ = M at hw hZ
    obtain ⟨⟨ci0, fs0, hci0, hM0⟩, hw⟩ := hw
    obtain ⟨k102, n103, hk1, hn1, hw⟩ := hw
    obtain ⟨C0, T0, N0, ty0, hc0, hsel0⟩ : ∃ (C0 : String) (T0 : u_T) (N0 : Nat) (ty0 : Nat → FieldType), zCls ci0 C0 T0 N0 ty0 ∧ Cond.selects C0 ⟨"PluralBranches$Linked", "with", "(Z[I)LPluralBranches$Language;"⟩ yX2_with ∈ lw_all := (zal ⟨_, _, _, _, zc2, q303⟩ (za0) : ∀ ci ∈ [2], ∃ (C0 : String) (T0 : u_T) (N0 : Nat) (ty0 : Nat → FieldType), zCls ci C0 T0 N0 ty0 ∧ Cond.selects C0 ⟨"PluralBranches$Linked", "with", "(Z[I)LPluralBranches$Language;"⟩ yX2_with ∈ lw_all) ci0 hci0
    refine z_callR hZ (vx_runU (As := [.int (0 : Int32), .ref b100]) (rest := []) hC.fix (w_X2_with hlt hw) (va_cwU (owner := "PluralBranches$Language") (x := ⟨"PluralBranches$Linked", "with", "(Z[I)LPluralBranches$Language;"⟩) 2 hts (lw_app (zal q300 (zal q301 (zal hsel0 (zal q304 (zal q70 za0))))) (lw_meth q305)) rfl rfl rfl rfl (by decide +kernel) ⟨Nat.le_of_ble_eq_true rfl, Nat.le_of_ble_eq_true rfl⟩) (z_preV hC hZ hM0 hc0) rfl rfl hl.1 rfl (lv_room (Nat.zero_le _)) dX0_languageOf_84 ⟨(show cells + k102 ≤ k by omega), (show slots + n103 ≤ n by omega)⟩) (fun r101 M H locs hw1 hZ => ?_) (fun q M H locs ci fs E T9 N9 hw hZ hc1 hM1 hb1 => False.elim hw)
    replace hw := hw1
    clear hw1
    have hk : cells + k102 + ((((k - 1) - k98) - 1) - k102) ≤ k := by omega
    have hn : slots + n103 + ((((n - 3) - n99) - (6 : Int32).toNatClampNeg) - n103) ≤ n := by omega
    generalize cells + k102 = cells at hk ⊢
    generalize slots + n103 = slots at hn ⊢
    clear hk1 hn1
    refine lv_iconst (v := 0) hx hb dX0_languageOf_87 (by decide) ?_
    refine lv_bipush (v := 6) hx hb dX0_languageOf_88 (by decide) ?_
    obtain ⟨hx1, hx2, hk1, hn1, hw⟩ := hw
    refine z_newa (k := 0) (a0 := zna 0 (6 : Int32).toNatClampNeg) (atype := .int) hC hZ q336 rfl (by decide) (fun _ => rfl) hx1 rfl (z_bytes hx2 (by decide)) (show cells + 1 ≤ k by omega) (show slots + (6 : Int32).toNatClampNeg ≤ n by omega) dX0_languageOf_90 (fun b104 H hq0 hq1 hZ => ?_)
    replace hw := hw b104 hq0 hq1
    replace hZ : zS D (zu M b104 (some (.inl (0, zna 0 (6 : Int32).toNatClampNeg)))) _ _ := hZ
    refine W.cs (cells' := cells + 1) (slots' := slots + (6 : Int32).toNatClampNeg) rfl rfl ?_
    generalize zu M _ _ = M at hw hZ
    have hk : cells + 1 + (((((k - 1) - k98) - 1) - k102) - 1) ≤ k := by omega
    have hn : slots + (6 : Int32).toNatClampNeg + (((((n - 3) - n99) - (6 : Int32).toNatClampNeg) - n103) - (6 : Int32).toNatClampNeg) ≤ n := by omega
    generalize cells + 1 = cells at hk ⊢
    generalize slots + (6 : Int32).toNatClampNeg = slots at hn ⊢
    clear hk1 hn1 hx1 hx2
    refine lv_dup hx hb dX0_languageOf_92 rfl ?_
    refine lv_iconst (v := 0) hx hb dX0_languageOf_93 (by decide) ?_
    refine lv_iconst (v := 3) hx hb dX0_languageOf_94 (by decide) ?_
    obtain ⟨n0, f0, hM0, hb0, hi0, hw⟩ := hw
    refine z_iast hC hZ hM0 hb0 hi0 dX0_languageOf_95 (fun H locs hZ => ?_)
    generalize zu M _ _ = M at hw hZ
    refine lv_dup hx hb dX0_languageOf_96 rfl ?_
    refine lv_iconst (v := 1) hx hb dX0_languageOf_97 (by decide) ?_
    refine lv_iconst (v := 0) hx hb dX0_languageOf_98 (by decide) ?_
    obtain ⟨n0, f0, hM0, hb0, hi0, hw⟩ := hw
    refine z_iast hC hZ hM0 hb0 hi0 dX0_languageOf_99 (fun H locs hZ => ?_)
    generalize zu M _ _ = M at hw hZ
    refine lv_dup hx hb dX0_languageOf_100 rfl ?_
    refine lv_iconst (v := 2) hx hb dX0_languageOf_101 (by decide) ?_
    refine lv_iconst (v := 0) hx hb dX0_languageOf_102 (by decide) ?_
    obtain ⟨n0, f0, hM0, hb0, hi0, hw⟩ := hw
    refine z_iast hC hZ hM0 hb0 hi0 dX0_languageOf_103 (fun H locs hZ => ?_)
    generalize zu M _ _ = M at hw hZ
    refine lv_dup hx hb dX0_languageOf_104 rfl ?_
    refine lv_iconst (v := 3) hx hb dX0_languageOf_105 (by decide) ?_
    refine lv_bipush (v := 10) hx hb dX0_languageOf_106 (by decide) ?_
    obtain ⟨n0, f0, hM0, hb0, hi0, hw⟩ := hw
    refine z_iast hC hZ hM0 hb0 hi0 dX0_languageOf_108 (fun H locs hZ => ?_)
    generalize zu M _ _ = M at hw hZ
    refine lv_dup hx hb dX0_languageOf_109 rfl ?_
    refine lv_iconst (v := 4) hx hb dX0_languageOf_110 (by decide) ?_
    refine lv_iconst (v := 2) hx hb dX0_languageOf_111 (by decide) ?_
    obtain ⟨n0, f0, hM0, hb0, hi0, hw⟩ := hw
    refine z_iast hC hZ hM0 hb0 hi0 dX0_languageOf_112 (fun H locs hZ => ?_)
    generalize zu M _ _ = M at hw hZ
    refine lv_dup hx hb dX0_languageOf_113 rfl ?_
    refine lv_iconst (v := 5) hx hb dX0_languageOf_114 (by decide) ?_
    refine lv_iconst (v := 4) hx hb dX0_languageOf_115 (by decide) ?_
    obtain ⟨n0, f0, hM0, hb0, hi0, hw⟩ := hw
    refine z_iast hC hZ hM0 hb0 hi0 dX0_languageOf_116 (fun H locs hZ => ?_)
    generalize zu M _ _ = M at hw hZ
    obtain ⟨b105, hr0, hw⟩ := hw
    subst hr0
    obtain ⟨⟨ci0, fs0, hci0, hM0⟩, hw⟩ := hw
    obtain ⟨k107, n108, hk1, hn1, hw⟩ := hw
    obtain ⟨C0, T0, N0, ty0, hc0, hsel0⟩ : ∃ (C0 : String) (T0 : u_T) (N0 : Nat) (ty0 : Nat → FieldType), zCls ci0 C0 T0 N0 ty0 ∧ Cond.selects C0 ⟨"PluralBranches$Language", "with", "(Z[I)LPluralBranches$Language;"⟩ yX2_with ∈ lw_all := (zal ⟨_, _, _, _, zc2, q2254⟩ (zal ⟨_, _, _, _, zc4, q2253⟩ (zal ⟨_, _, _, _, zc5, q2252⟩ (zal ⟨_, _, _, _, zc6, q2255⟩ (za0)))) : ∀ ci ∈ [2, 4, 5, 6], ∃ (C0 : String) (T0 : u_T) (N0 : Nat) (ty0 : Nat → FieldType), zCls ci C0 T0 N0 ty0 ∧ Cond.selects C0 ⟨"PluralBranches$Language", "with", "(Z[I)LPluralBranches$Language;"⟩ yX2_with ∈ lw_all) ci0 hci0
    refine z_callR hZ (vx_runU (As := [.int (0 : Int32), .ref b104]) (rest := []) hC.fix (w_X2_with hlt hw) (va_cwU (owner := "PluralBranches$Language") (x := ⟨"PluralBranches$Language", "with", "(Z[I)LPluralBranches$Language;"⟩) 2 hts (lw_app (zal q349 (zal q2251 (zal hsel0 (zal q304 (zal q70 za0))))) (lw_meth q305)) rfl rfl rfl rfl (by decide +kernel) ⟨Nat.le_of_ble_eq_true rfl, Nat.le_of_ble_eq_true rfl⟩) (z_preV hC hZ hM0 hc0) rfl rfl hl.1 rfl (lv_room (Nat.zero_le _)) dX0_languageOf_117 ⟨(show cells + k107 ≤ k by omega), (show slots + n108 ≤ n by omega)⟩) (fun r106 M H locs hw1 hZ => ?_) (fun q M H locs ci fs E T9 N9 hw hZ hc1 hM1 hb1 => False.elim hw)
    replace hw := hw1
    clear hw1
    have hk : cells + k107 + ((((((k - 1) - k98) - 1) - k102) - 1) - k107) ≤ k := by omega
    have hn : slots + n108 + ((((((n - 3) - n99) - (6 : Int32).toNatClampNeg) - n103) - (6 : Int32).toNatClampNeg) - n108) ≤ n := by omega
    generalize cells + k107 = cells at hk ⊢
    generalize slots + n108 = slots at hn ⊢
    clear hk1 hn1
    refine lv_iconst (v := 1) hx hb dX0_languageOf_120 (by decide) ?_
    refine lv_bipush (v := 6) hx hb dX0_languageOf_121 (by decide) ?_
    obtain ⟨hx1, hx2, hk1, hn1, hw⟩ := hw
    refine z_newa (k := 0) (a0 := zna 0 (6 : Int32).toNatClampNeg) (atype := .int) hC hZ q336 rfl (by decide) (fun _ => rfl) hx1 rfl (z_bytes hx2 (by decide)) (show cells + 1 ≤ k by omega) (show slots + (6 : Int32).toNatClampNeg ≤ n by omega) dX0_languageOf_123 (fun b109 H hq0 hq1 hZ => ?_)
    replace hw := hw b109 hq0 hq1
    replace hZ : zS D (zu M b109 (some (.inl (0, zna 0 (6 : Int32).toNatClampNeg)))) _ _ := hZ
    refine W.cs (cells' := cells + 1) (slots' := slots + (6 : Int32).toNatClampNeg) rfl rfl ?_
    generalize zu M _ _ = M at hw hZ
    have hk : cells + 1 + (((((((k - 1) - k98) - 1) - k102) - 1) - k107) - 1) ≤ k := by omega
    have hn : slots + (6 : Int32).toNatClampNeg + (((((((n - 3) - n99) - (6 : Int32).toNatClampNeg) - n103) - (6 : Int32).toNatClampNeg) - n108) - (6 : Int32).toNatClampNeg) ≤ n := by omega
    generalize cells + 1 = cells at hk ⊢
    generalize slots + (6 : Int32).toNatClampNeg = slots at hn ⊢
    clear hk1 hn1 hx1 hx2
    refine lv_dup hx hb dX0_languageOf_125 rfl ?_
    refine lv_iconst (v := 0) hx hb dX0_languageOf_126 (by decide) ?_
    refine lv_iconst (v := 3) hx hb dX0_languageOf_127 (by decide) ?_
    obtain ⟨n0, f0, hM0, hb0, hi0, hw⟩ := hw
    refine z_iast hC hZ hM0 hb0 hi0 dX0_languageOf_128 (fun H locs hZ => ?_)
    generalize zu M _ _ = M at hw hZ
    refine lv_dup hx hb dX0_languageOf_129 rfl ?_
    refine lv_iconst (v := 1) hx hb dX0_languageOf_130 (by decide) ?_
    refine lv_iconst (v := 0) hx hb dX0_languageOf_131 (by decide) ?_
    obtain ⟨n0, f0, hM0, hb0, hi0, hw⟩ := hw
    refine z_iast hC hZ hM0 hb0 hi0 dX0_languageOf_132 (fun H locs hZ => ?_)
    generalize zu M _ _ = M at hw hZ
    refine lv_dup hx hb dX0_languageOf_133 rfl ?_
    refine lv_iconst (v := 2) hx hb dX0_languageOf_134 (by decide) ?_
    refine lv_iconst (v := 0) hx hb dX0_languageOf_135 (by decide) ?_
    obtain ⟨n0, f0, hM0, hb0, hi0, hw⟩ := hw
    refine z_iast hC hZ hM0 hb0 hi0 dX0_languageOf_136 (fun H locs hZ => ?_)
    generalize zu M _ _ = M at hw hZ
    refine lv_dup hx hb dX0_languageOf_137 rfl ?_
    refine lv_iconst (v := 3) hx hb dX0_languageOf_138 (by decide) ?_
    refine lv_bipush (v := 100) hx hb dX0_languageOf_139 (by decide) ?_
    obtain ⟨n0, f0, hM0, hb0, hi0, hw⟩ := hw
    refine z_iast hC hZ hM0 hb0 hi0 dX0_languageOf_141 (fun H locs hZ => ?_)
    generalize zu M _ _ = M at hw hZ
    refine lv_dup hx hb dX0_languageOf_142 rfl ?_
    refine lv_iconst (v := 4) hx hb dX0_languageOf_143 (by decide) ?_
    refine lv_bipush (v := 12) hx hb dX0_languageOf_144 (by decide) ?_
    obtain ⟨n0, f0, hM0, hb0, hi0, hw⟩ := hw
    refine z_iast hC hZ hM0 hb0 hi0 dX0_languageOf_146 (fun H locs hZ => ?_)
    generalize zu M _ _ = M at hw hZ
    refine lv_dup hx hb dX0_languageOf_147 rfl ?_
    refine lv_iconst (v := 5) hx hb dX0_languageOf_148 (by decide) ?_
    refine lv_bipush (v := 14) hx hb dX0_languageOf_149 (by decide) ?_
    obtain ⟨n0, f0, hM0, hb0, hi0, hw⟩ := hw
    refine z_iast hC hZ hM0 hb0 hi0 dX0_languageOf_151 (fun H locs hZ => ?_)
    generalize zu M _ _ = M at hw hZ
    obtain ⟨b110, hr0, hw⟩ := hw
    subst hr0
    obtain ⟨⟨ci0, fs0, hci0, hM0⟩, hw⟩ := hw
    obtain ⟨k112, n113, hk1, hn1, hw⟩ := hw
    obtain ⟨C0, T0, N0, ty0, hc0, hsel0⟩ : ∃ (C0 : String) (T0 : u_T) (N0 : Nat) (ty0 : Nat → FieldType), zCls ci0 C0 T0 N0 ty0 ∧ Cond.selects C0 ⟨"PluralBranches$Language", "with", "(Z[I)LPluralBranches$Language;"⟩ yX2_with ∈ lw_all := (zal ⟨_, _, _, _, zc2, q2254⟩ (zal ⟨_, _, _, _, zc4, q2253⟩ (zal ⟨_, _, _, _, zc5, q2252⟩ (zal ⟨_, _, _, _, zc6, q2255⟩ (za0)))) : ∀ ci ∈ [2, 4, 5, 6], ∃ (C0 : String) (T0 : u_T) (N0 : Nat) (ty0 : Nat → FieldType), zCls ci C0 T0 N0 ty0 ∧ Cond.selects C0 ⟨"PluralBranches$Language", "with", "(Z[I)LPluralBranches$Language;"⟩ yX2_with ∈ lw_all) ci0 hci0
    refine z_callR hZ (vx_runU (As := [.int (1 : Int32), .ref b109]) (rest := []) hC.fix (w_X2_with hlt hw) (va_cwU (owner := "PluralBranches$Language") (x := ⟨"PluralBranches$Language", "with", "(Z[I)LPluralBranches$Language;"⟩) 2 hts (lw_app (zal q349 (zal q2251 (zal hsel0 (zal q304 (zal q70 za0))))) (lw_meth q305)) rfl rfl rfl rfl (by decide +kernel) ⟨Nat.le_of_ble_eq_true rfl, Nat.le_of_ble_eq_true rfl⟩) (z_preV hC hZ hM0 hc0) rfl rfl hl.1 rfl (lv_room (Nat.zero_le _)) dX0_languageOf_152 ⟨(show cells + k112 ≤ k by omega), (show slots + n113 ≤ n by omega)⟩) (fun r111 M H locs hw1 hZ => ?_) (fun q M H locs ci fs E T9 N9 hw hZ hc1 hM1 hb1 => False.elim hw)
    replace hw := hw1
    clear hw1
    have hk : cells + k112 + ((((((((k - 1) - k98) - 1) - k102) - 1) - k107) - 1) - k112) ≤ k := by omega
    have hn : slots + n113 + ((((((((n - 3) - n99) - (6 : Int32).toNatClampNeg) - n103) - (6 : Int32).toNatClampNeg) - n108) - (6 : Int32).toNatClampNeg) - n113) ≤ n := by omega
    generalize cells + k112 = cells at hk ⊢
    generalize slots + n113 = slots at hn ⊢
    clear hk1 hn1
    refine lv_iconst (v := 0) hx hb dX0_languageOf_155 (by decide) ?_
    refine lv_bipush (v := 6) hx hb dX0_languageOf_156 (by decide) ?_
    obtain ⟨hx1, hx2, hk1, hn1, hw⟩ := hw
    refine z_newa (k := 0) (a0 := zna 0 (6 : Int32).toNatClampNeg) (atype := .int) hC hZ q336 rfl (by decide) (fun _ => rfl) hx1 rfl (z_bytes hx2 (by decide)) (show cells + 1 ≤ k by omega) (show slots + (6 : Int32).toNatClampNeg ≤ n by omega) dX0_languageOf_158 (fun b114 H hq0 hq1 hZ => ?_)
    replace hw := hw b114 hq0 hq1
    replace hZ : zS D (zu M b114 (some (.inl (0, zna 0 (6 : Int32).toNatClampNeg)))) _ _ := hZ
    refine W.cs (cells' := cells + 1) (slots' := slots + (6 : Int32).toNatClampNeg) rfl rfl ?_
    generalize zu M _ _ = M at hw hZ
    have hk : cells + 1 + (((((((((k - 1) - k98) - 1) - k102) - 1) - k107) - 1) - k112) - 1) ≤ k := by omega
    have hn : slots + (6 : Int32).toNatClampNeg + (((((((((n - 3) - n99) - (6 : Int32).toNatClampNeg) - n103) - (6 : Int32).toNatClampNeg) - n108) - (6 : Int32).toNatClampNeg) - n113) - (6 : Int32).toNatClampNeg) ≤ n := by omega
    generalize cells + 1 = cells at hk ⊢
    generalize slots + (6 : Int32).toNatClampNeg = slots at hn ⊢
    clear hk1 hn1 hx1 hx2
    refine lv_dup hx hb dX0_languageOf_160 rfl ?_
    refine lv_iconst (v := 0) hx hb dX0_languageOf_161 (by decide) ?_
    refine lv_iconst (v := 4) hx hb dX0_languageOf_162 (by decide) ?_
    obtain ⟨n0, f0, hM0, hb0, hi0, hw⟩ := hw
    refine z_iast hC hZ hM0 hb0 hi0 dX0_languageOf_163 (fun H locs hZ => ?_)
    generalize zu M _ _ = M at hw hZ
    refine lv_dup hx hb dX0_languageOf_164 rfl ?_
    refine lv_iconst (v := 1) hx hb dX0_languageOf_165 (by decide) ?_
    refine lv_iconst (v := 0) hx hb dX0_languageOf_166 (by decide) ?_
    obtain ⟨n0, f0, hM0, hb0, hi0, hw⟩ := hw
    refine z_iast hC hZ hM0 hb0 hi0 dX0_languageOf_167 (fun H locs hZ => ?_)
    generalize zu M _ _ = M at hw hZ
    refine lv_dup hx hb dX0_languageOf_168 rfl ?_
    refine lv_iconst (v := 2) hx hb dX0_languageOf_169 (by decide) ?_
    refine lv_iconst (v := 1) hx hb dX0_languageOf_170 (by decide) ?_
    obtain ⟨n0, f0, hM0, hb0, hi0, hw⟩ := hw
    refine z_iast hC hZ hM0 hb0 hi0 dX0_languageOf_171 (fun H locs hZ => ?_)
    generalize zu M _ _ = M at hw hZ
    refine lv_dup hx hb dX0_languageOf_172 rfl ?_
    refine lv_iconst (v := 3) hx hb dX0_languageOf_173 (by decide) ?_
    refine lv_iconst (v := 0) hx hb dX0_languageOf_174 (by decide) ?_
    obtain ⟨n0, f0, hM0, hb0, hi0, hw⟩ := hw
    refine z_iast hC hZ hM0 hb0 hi0 dX0_languageOf_175 (fun H locs hZ => ?_)
    generalize zu M _ _ = M at hw hZ
    refine lv_dup hx hb dX0_languageOf_176 rfl ?_
    refine lv_iconst (v := 4) hx hb dX0_languageOf_177 (by decide) ?_
    refine lv_iconst (v := 0) hx hb dX0_languageOf_178 (by decide) ?_
    obtain ⟨n0, f0, hM0, hb0, hi0, hw⟩ := hw
    refine z_iast hC hZ hM0 hb0 hi0 dX0_languageOf_179 (fun H locs hZ => ?_)
    generalize zu M _ _ = M at hw hZ
    refine lv_dup hx hb dX0_languageOf_180 rfl ?_
    refine lv_iconst (v := 5) hx hb dX0_languageOf_181 (by decide) ?_
    refine lv_iconst (v := 0) hx hb dX0_languageOf_182 (by decide) ?_
    obtain ⟨n0, f0, hM0, hb0, hi0, hw⟩ := hw
    refine z_iast hC hZ hM0 hb0 hi0 dX0_languageOf_183 (fun H locs hZ => ?_)
    generalize zu M _ _ = M at hw hZ
    obtain ⟨b115, hr0, hw⟩ := hw
    subst hr0
    obtain ⟨⟨ci0, fs0, hci0, hM0⟩, hw⟩ := hw
    obtain ⟨k117, n118, hk1, hn1, hw⟩ := hw
    obtain ⟨C0, T0, N0, ty0, hc0, hsel0⟩ : ∃ (C0 : String) (T0 : u_T) (N0 : Nat) (ty0 : Nat → FieldType), zCls ci0 C0 T0 N0 ty0 ∧ Cond.selects C0 ⟨"PluralBranches$Language", "with", "(Z[I)LPluralBranches$Language;"⟩ yX2_with ∈ lw_all := (zal ⟨_, _, _, _, zc2, q2254⟩ (zal ⟨_, _, _, _, zc4, q2253⟩ (zal ⟨_, _, _, _, zc5, q2252⟩ (zal ⟨_, _, _, _, zc6, q2255⟩ (za0)))) : ∀ ci ∈ [2, 4, 5, 6], ∃ (C0 : String) (T0 : u_T) (N0 : Nat) (ty0 : Nat → FieldType), zCls ci C0 T0 N0 ty0 ∧ Cond.selects C0 ⟨"PluralBranches$Language", "with", "(Z[I)LPluralBranches$Language;"⟩ yX2_with ∈ lw_all) ci0 hci0
    refine z_callR hZ (vx_runU (As := [.int (0 : Int32), .ref b114]) (rest := []) hC.fix (w_X2_with hlt hw) (va_cwU (owner := "PluralBranches$Language") (x := ⟨"PluralBranches$Language", "with", "(Z[I)LPluralBranches$Language;"⟩) 2 hts (lw_app (zal q349 (zal q2251 (zal hsel0 (zal q304 (zal q70 za0))))) (lw_meth q305)) rfl rfl rfl rfl (by decide +kernel) ⟨Nat.le_of_ble_eq_true rfl, Nat.le_of_ble_eq_true rfl⟩) (z_preV hC hZ hM0 hc0) rfl rfl hl.1 rfl (lv_room (Nat.zero_le _)) dX0_languageOf_184 ⟨(show cells + k117 ≤ k by omega), (show slots + n118 ≤ n by omega)⟩) (fun r116 M H locs hw1 hZ => ?_) (fun q M H locs ci fs E T9 N9 hw hZ hc1 hM1 hb1 => False.elim hw)
    replace hw := hw1
    clear hw1
    have hk : cells + k117 + ((((((((((k - 1) - k98) - 1) - k102) - 1) - k107) - 1) - k112) - 1) - k117) ≤ k := by omega
    have hn : slots + n118 + ((((((((((n - 3) - n99) - (6 : Int32).toNatClampNeg) - n103) - (6 : Int32).toNatClampNeg) - n108) - (6 : Int32).toNatClampNeg) - n113) - (6 : Int32).toNatClampNeg) - n118) ≤ n := by omega
    generalize cells + k117 = cells at hk ⊢
    generalize slots + n118 = slots at hn ⊢
    clear hk1 hn1
    exact z_aret (r := r116) hG (Or.inl ⟨_, rfl⟩) hZ (by omega) (by omega) hw dX0_languageOf_187
  by_cases e180 : a0 = 3
  · replace hw := hw.2.2.1 e180
    refine lv_tableIn (tgt := 188) (off := 187) hx hb dX0_languageOf_1 (by rw [e180]; decide) (by rw [e180]; decide) (by rw [e180]; decide) (by decide) ?_
    obtain ⟨hk1, hn1, hw⟩ := hw
    refine z_new (fs := [.null, .null, .null]) hC hZ zc2 q180 q181 q71 (zdefs (N := 3) (ty := tyX3) (fs := [.null, .null, .null]) (by decide)) (show cells + 1 ≤ k by omega) (show slots + 3 ≤ n by omega) dX0_languageOf_188 (fun b119 H hq0 hq1 hZ => ?_)
    replace hw := hw b119 hq0 hq1
    generalize zu M _ _ = M at hw hZ
    have hk : cells + 1 + (k - 1) ≤ k := by omega
    have hn : slots + 3 + (n - 3) ≤ n := by omega
    generalize cells + 1 = cells at hk ⊢
    generalize slots + 3 = slots at hn ⊢
    clear hk1 hn1
    refine lv_dup hx hb dX0_languageOf_191 rfl ?_
    refine z_ldcS (i := 2) hC rfl dX0_languageOf_192 ?_
    obtain ⟨k121, n122, hk1, hn1, hw⟩ := hw
    refine z_callU hZ (vx_runI (As := [.ref (D.2.2.2 (10 + 2))]) (rest := [.ref b119]) hC.fix (w_X3_init hlt hw) (cwI 1 hts (lw_meth q185) rfl rfl rfl (hts _ q71) (hts _ q183) (hts _ q184) rfl dd_X3_init ⟨Nat.le_of_ble_eq_true rfl, Nat.le_of_ble_eq_true rfl⟩) (z_preS hC hZ) rfl rfl hl.1 rfl (lv_room (Nat.le_trans (zrm1 rfl zrm0) (Nat.le_of_ble_eq_true rfl))) dX0_languageOf_194 ⟨(show cells + k121 ≤ k by omega), (show slots + n122 ≤ n by omega)⟩) (fun r120 M H locs hw1 hZ => ?_) (fun q M H locs ci fs E T9 N9 hw hZ hc1 hM1 hb1 => False.elim hw)
    replace hw := hw1
    clear hw1
    have hk : cells + k121 + ((k - 1) - k121) ≤ k := by omega
    have hn : slots + n122 + ((n - 3) - n122) ≤ n := by omega
    generalize cells + k121 = cells at hk ⊢
    generalize slots + n122 = slots at hn ⊢
    clear hk1 hn1
    refine lv_iconst (v := 0) hx hb dX0_languageOf_197 (by decide) ?_
    refine lv_bipush (v := 6) hx hb dX0_languageOf_198 (by decide) ?_
    obtain ⟨hx1, hx2, hk1, hn1, hw⟩ := hw
    refine z_newa (k := 0) (a0 := zna 0 (6 : Int32).toNatClampNeg) (atype := .int) hC hZ q336 rfl (by decide) (fun _ => rfl) hx1 rfl (z_bytes hx2 (by decide)) (show cells + 1 ≤ k by omega) (show slots + (6 : Int32).toNatClampNeg ≤ n by omega) dX0_languageOf_200 (fun b123 H hq0 hq1 hZ => ?_)
    replace hw := hw b123 hq0 hq1
    replace hZ : zS D (zu M b123 (some (.inl (0, zna 0 (6 : Int32).toNatClampNeg)))) _ _ := hZ
    refine W.cs (cells' := cells + 1) (slots' := slots + (6 : Int32).toNatClampNeg) rfl rfl ?_
    generalize zu M _ _ = M at hw hZ
    have hk : cells + 1 + (((k - 1) - k121) - 1) ≤ k := by omega
    have hn : slots + (6 : Int32).toNatClampNeg + (((n - 3) - n122) - (6 : Int32).toNatClampNeg) ≤ n := by omega
    generalize cells + 1 = cells at hk ⊢
    generalize slots + (6 : Int32).toNatClampNeg = slots at hn ⊢
    clear hk1 hn1 hx1 hx2
    refine lv_dup hx hb dX0_languageOf_202 rfl ?_
    refine lv_iconst (v := 0) hx hb dX0_languageOf_203 (by decide) ?_
    refine lv_iconst (v := 0) hx hb dX0_languageOf_204 (by decide) ?_
    obtain ⟨n0, f0, hM0, hb0, hi0, hw⟩ := hw
    refine z_iast hC hZ hM0 hb0 hi0 dX0_languageOf_205 (fun H locs hZ => ?_)
    generalize zu M _ _ = M at hw hZ
    refine lv_dup hx hb dX0_languageOf_206 rfl ?_
    refine lv_iconst (v := 1) hx hb dX0_languageOf_207 (by decide) ?_
    refine lv_iconst (v := 0) hx hb dX0_languageOf_208 (by decide) ?_
    obtain ⟨n0, f0, hM0, hb0, hi0, hw⟩ := hw
    refine z_iast hC hZ hM0 hb0 hi0 dX0_languageOf_209 (fun H locs hZ => ?_)
    generalize zu M _ _ = M at hw hZ
    refine lv_dup hx hb dX0_languageOf_210 rfl ?_
    refine lv_iconst (v := 2) hx hb dX0_languageOf_211 (by decide) ?_
    refine lv_iconst (v := 1) hx hb dX0_languageOf_212 (by decide) ?_
    obtain ⟨n0, f0, hM0, hb0, hi0, hw⟩ := hw
    refine z_iast hC hZ hM0 hb0 hi0 dX0_languageOf_213 (fun H locs hZ => ?_)
    generalize zu M _ _ = M at hw hZ
    refine lv_dup hx hb dX0_languageOf_214 rfl ?_
    refine lv_iconst (v := 3) hx hb dX0_languageOf_215 (by decide) ?_
    refine lv_iconst (v := 0) hx hb dX0_languageOf_216 (by decide) ?_
    obtain ⟨n0, f0, hM0, hb0, hi0, hw⟩ := hw
    refine z_iast hC hZ hM0 hb0 hi0 dX0_languageOf_217 (fun H locs hZ => ?_)
    generalize zu M _ _ = M at hw hZ
    refine lv_dup hx hb dX0_languageOf_218 rfl ?_
    refine lv_iconst (v := 4) hx hb dX0_languageOf_219 (by decide) ?_
    refine lv_iconst (v := 0) hx hb dX0_languageOf_220 (by decide) ?_
    obtain ⟨n0, f0, hM0, hb0, hi0, hw⟩ := hw
    refine z_iast hC hZ hM0 hb0 hi0 dX0_languageOf_221 (fun H locs hZ => ?_)
    generalize zu M _ _ = M at hw hZ
    refine lv_dup hx hb dX0_languageOf_222 rfl ?_
    refine lv_iconst (v := 5) hx hb dX0_languageOf_223 (by decide) ?_
    refine lv_iconst (v := 0) hx hb dX0_languageOf_224 (by decide) ?_
    obtain ⟨n0, f0, hM0, hb0, hi0, hw⟩ := hw
    refine z_iast hC hZ hM0 hb0 hi0 dX0_languageOf_225 (fun H locs hZ => ?_)
    generalize zu M _ _ = M at hw hZ
    obtain ⟨⟨ci0, fs0, hci0, hM0⟩, hw⟩ := hw
    obtain ⟨k125, n126, hk1, hn1, hw⟩ := hw
    obtain ⟨C0, T0, N0, ty0, hc0, hsel0⟩ : ∃ (C0 : String) (T0 : u_T) (N0 : Nat) (ty0 : Nat → FieldType), zCls ci0 C0 T0 N0 ty0 ∧ Cond.selects C0 ⟨"PluralBranches$Linked", "with", "(Z[I)LPluralBranches$Language;"⟩ yX2_with ∈ lw_all := (zal ⟨_, _, _, _, zc2, q303⟩ (za0) : ∀ ci ∈ [2], ∃ (C0 : String) (T0 : u_T) (N0 : Nat) (ty0 : Nat → FieldType), zCls ci C0 T0 N0 ty0 ∧ Cond.selects C0 ⟨"PluralBranches$Linked", "with", "(Z[I)LPluralBranches$Language;"⟩ yX2_with ∈ lw_all) ci0 hci0
    refine z_callR hZ (vx_runU (As := [.int (0 : Int32), .ref b123]) (rest := []) hC.fix (w_X2_with hlt hw) (va_cwU (owner := "PluralBranches$Language") (x := ⟨"PluralBranches$Linked", "with", "(Z[I)LPluralBranches$Language;"⟩) 2 hts (lw_app (zal q300 (zal q301 (zal hsel0 (zal q304 (zal q70 za0))))) (lw_meth q305)) rfl rfl rfl rfl (by decide +kernel) ⟨Nat.le_of_ble_eq_true rfl, Nat.le_of_ble_eq_true rfl⟩) (z_preV hC hZ hM0 hc0) rfl rfl hl.1 rfl (lv_room (Nat.zero_le _)) dX0_languageOf_226 ⟨(show cells + k125 ≤ k by omega), (show slots + n126 ≤ n by omega)⟩) (fun r124 M H locs hw1 hZ => ?_) (fun q M H locs ci fs E T9 N9 hw hZ hc1 hM1 hb1 => False.elim hw)
    replace hw := hw1
    clear hw1
    have hk : cells + k125 + ((((k - 1) - k121) - 1) - k125) ≤ k := by omega
    have hn : slots + n126 + ((((n - 3) - n122) - (6 : Int32).toNatClampNeg) - n126) ≤ n := by omega
    generalize cells + k125 = cells at hk ⊢
    generalize slots + n126 = slots at hn ⊢
    clear hk1 hn1
    refine lv_iconst (v := 0) hx hb dX0_languageOf_229 (by decide) ?_
    refine lv_bipush (v := 6) hx hb dX0_languageOf_230 (by decide) ?_
    obtain ⟨hx1, hx2, hk1, hn1, hw⟩ := hw
    refine z_newa (k := 0) (a0 := zna 0 (6 : Int32).toNatClampNeg) (atype := .int) hC hZ q336 rfl (by decide) (fun _ => rfl) hx1 rfl (z_bytes hx2 (by decide)) (show cells + 1 ≤ k by omega) (show slots + (6 : Int32).toNatClampNeg ≤ n by omega) dX0_languageOf_232 (fun b127 H hq0 hq1 hZ => ?_)
    replace hw := hw b127 hq0 hq1
    replace hZ : zS D (zu M b127 (some (.inl (0, zna 0 (6 : Int32).toNatClampNeg)))) _ _ := hZ
    refine W.cs (cells' := cells + 1) (slots' := slots + (6 : Int32).toNatClampNeg) rfl rfl ?_
    generalize zu M _ _ = M at hw hZ
    have hk : cells + 1 + (((((k - 1) - k121) - 1) - k125) - 1) ≤ k := by omega
    have hn : slots + (6 : Int32).toNatClampNeg + (((((n - 3) - n122) - (6 : Int32).toNatClampNeg) - n126) - (6 : Int32).toNatClampNeg) ≤ n := by omega
    generalize cells + 1 = cells at hk ⊢
    generalize slots + (6 : Int32).toNatClampNeg = slots at hn ⊢
    clear hk1 hn1 hx1 hx2
    refine lv_dup hx hb dX0_languageOf_234 rfl ?_
    refine lv_iconst (v := 0) hx hb dX0_languageOf_235 (by decide) ?_
    refine lv_iconst (v := 0) hx hb dX0_languageOf_236 (by decide) ?_
    obtain ⟨n0, f0, hM0, hb0, hi0, hw⟩ := hw
    refine z_iast hC hZ hM0 hb0 hi0 dX0_languageOf_237 (fun H locs hZ => ?_)
    generalize zu M _ _ = M at hw hZ
    refine lv_dup hx hb dX0_languageOf_238 rfl ?_
    refine lv_iconst (v := 1) hx hb dX0_languageOf_239 (by decide) ?_
    refine lv_iconst (v := 0) hx hb dX0_languageOf_240 (by decide) ?_
    obtain ⟨n0, f0, hM0, hb0, hi0, hw⟩ := hw
    refine z_iast hC hZ hM0 hb0 hi0 dX0_languageOf_241 (fun H locs hZ => ?_)
    generalize zu M _ _ = M at hw hZ
    refine lv_dup hx hb dX0_languageOf_242 rfl ?_
    refine lv_iconst (v := 2) hx hb dX0_languageOf_243 (by decide) ?_
    refine lv_iconst (v := 0) hx hb dX0_languageOf_244 (by decide) ?_
    obtain ⟨n0, f0, hM0, hb0, hi0, hw⟩ := hw
    refine z_iast hC hZ hM0 hb0 hi0 dX0_languageOf_245 (fun H locs hZ => ?_)
    generalize zu M _ _ = M at hw hZ
    refine lv_dup hx hb dX0_languageOf_246 rfl ?_
    refine lv_iconst (v := 3) hx hb dX0_languageOf_247 (by decide) ?_
    refine lv_bipush (v := 10) hx hb dX0_languageOf_248 (by decide) ?_
    obtain ⟨n0, f0, hM0, hb0, hi0, hw⟩ := hw
    refine z_iast hC hZ hM0 hb0 hi0 dX0_languageOf_250 (fun H locs hZ => ?_)
    generalize zu M _ _ = M at hw hZ
    refine lv_dup hx hb dX0_languageOf_251 rfl ?_
    refine lv_iconst (v := 4) hx hb dX0_languageOf_252 (by decide) ?_
    refine lv_iconst (v := 0) hx hb dX0_languageOf_253 (by decide) ?_
    obtain ⟨n0, f0, hM0, hb0, hi0, hw⟩ := hw
    refine z_iast hC hZ hM0 hb0 hi0 dX0_languageOf_254 (fun H locs hZ => ?_)
    generalize zu M _ _ = M at hw hZ
    refine lv_dup hx hb dX0_languageOf_255 rfl ?_
    refine lv_iconst (v := 5) hx hb dX0_languageOf_256 (by decide) ?_
    refine lv_iconst (v := 0) hx hb dX0_languageOf_257 (by decide) ?_
    obtain ⟨n0, f0, hM0, hb0, hi0, hw⟩ := hw
    refine z_iast hC hZ hM0 hb0 hi0 dX0_languageOf_258 (fun H locs hZ => ?_)
    generalize zu M _ _ = M at hw hZ
    obtain ⟨b128, hr0, hw⟩ := hw
    subst hr0
    obtain ⟨⟨ci0, fs0, hci0, hM0⟩, hw⟩ := hw
    obtain ⟨k130, n131, hk1, hn1, hw⟩ := hw
    obtain ⟨C0, T0, N0, ty0, hc0, hsel0⟩ : ∃ (C0 : String) (T0 : u_T) (N0 : Nat) (ty0 : Nat → FieldType), zCls ci0 C0 T0 N0 ty0 ∧ Cond.selects C0 ⟨"PluralBranches$Language", "with", "(Z[I)LPluralBranches$Language;"⟩ yX2_with ∈ lw_all := (zal ⟨_, _, _, _, zc2, q2254⟩ (zal ⟨_, _, _, _, zc4, q2253⟩ (zal ⟨_, _, _, _, zc5, q2252⟩ (zal ⟨_, _, _, _, zc6, q2255⟩ (za0)))) : ∀ ci ∈ [2, 4, 5, 6], ∃ (C0 : String) (T0 : u_T) (N0 : Nat) (ty0 : Nat → FieldType), zCls ci C0 T0 N0 ty0 ∧ Cond.selects C0 ⟨"PluralBranches$Language", "with", "(Z[I)LPluralBranches$Language;"⟩ yX2_with ∈ lw_all) ci0 hci0
    refine z_callR hZ (vx_runU (As := [.int (0 : Int32), .ref b127]) (rest := []) hC.fix (w_X2_with hlt hw) (va_cwU (owner := "PluralBranches$Language") (x := ⟨"PluralBranches$Language", "with", "(Z[I)LPluralBranches$Language;"⟩) 2 hts (lw_app (zal q349 (zal q2251 (zal hsel0 (zal q304 (zal q70 za0))))) (lw_meth q305)) rfl rfl rfl rfl (by decide +kernel) ⟨Nat.le_of_ble_eq_true rfl, Nat.le_of_ble_eq_true rfl⟩) (z_preV hC hZ hM0 hc0) rfl rfl hl.1 rfl (lv_room (Nat.zero_le _)) dX0_languageOf_259 ⟨(show cells + k130 ≤ k by omega), (show slots + n131 ≤ n by omega)⟩) (fun r129 M H locs hw1 hZ => ?_) (fun q M H locs ci fs E T9 N9 hw hZ hc1 hM1 hb1 => False.elim hw)
    replace hw := hw1
    clear hw1
    have hk : cells + k130 + ((((((k - 1) - k121) - 1) - k125) - 1) - k130) ≤ k := by omega
    have hn : slots + n131 + ((((((n - 3) - n122) - (6 : Int32).toNatClampNeg) - n126) - (6 : Int32).toNatClampNeg) - n131) ≤ n := by omega
    generalize cells + k130 = cells at hk ⊢
    generalize slots + n131 = slots at hn ⊢
    clear hk1 hn1
    refine lv_iconst (v := 0) hx hb dX0_languageOf_262 (by decide) ?_
    refine lv_bipush (v := 6) hx hb dX0_languageOf_263 (by decide) ?_
    obtain ⟨hx1, hx2, hk1, hn1, hw⟩ := hw
    refine z_newa (k := 0) (a0 := zna 0 (6 : Int32).toNatClampNeg) (atype := .int) hC hZ q336 rfl (by decide) (fun _ => rfl) hx1 rfl (z_bytes hx2 (by decide)) (show cells + 1 ≤ k by omega) (show slots + (6 : Int32).toNatClampNeg ≤ n by omega) dX0_languageOf_265 (fun b132 H hq0 hq1 hZ => ?_)
    replace hw := hw b132 hq0 hq1
    replace hZ : zS D (zu M b132 (some (.inl (0, zna 0 (6 : Int32).toNatClampNeg)))) _ _ := hZ
    refine W.cs (cells' := cells + 1) (slots' := slots + (6 : Int32).toNatClampNeg) rfl rfl ?_
    generalize zu M _ _ = M at hw hZ
    have hk : cells + 1 + (((((((k - 1) - k121) - 1) - k125) - 1) - k130) - 1) ≤ k := by omega
    have hn : slots + (6 : Int32).toNatClampNeg + (((((((n - 3) - n122) - (6 : Int32).toNatClampNeg) - n126) - (6 : Int32).toNatClampNeg) - n131) - (6 : Int32).toNatClampNeg) ≤ n := by omega
    generalize cells + 1 = cells at hk ⊢
    generalize slots + (6 : Int32).toNatClampNeg = slots at hn ⊢
    clear hk1 hn1 hx1 hx2
    refine lv_dup hx hb dX0_languageOf_267 rfl ?_
    refine lv_iconst (v := 0) hx hb dX0_languageOf_268 (by decide) ?_
    refine lv_iconst (v := 0) hx hb dX0_languageOf_269 (by decide) ?_
    obtain ⟨n0, f0, hM0, hb0, hi0, hw⟩ := hw
    refine z_iast hC hZ hM0 hb0 hi0 dX0_languageOf_270 (fun H locs hZ => ?_)
    generalize zu M _ _ = M at hw hZ
    refine lv_dup hx hb dX0_languageOf_271 rfl ?_
    refine lv_iconst (v := 1) hx hb dX0_languageOf_272 (by decide) ?_
    refine lv_iconst (v := 1) hx hb dX0_languageOf_273 (by decide) ?_
    obtain ⟨n0, f0, hM0, hb0, hi0, hw⟩ := hw
    refine z_iast hC hZ hM0 hb0 hi0 dX0_languageOf_274 (fun H locs hZ => ?_)
    generalize zu M _ _ = M at hw hZ
    refine lv_dup hx hb dX0_languageOf_275 rfl ?_
    refine lv_iconst (v := 2) hx hb dX0_languageOf_276 (by decide) ?_
    refine lv_iconst (v := 1) hx hb dX0_languageOf_277 (by decide) ?_
    obtain ⟨n0, f0, hM0, hb0, hi0, hw⟩ := hw
    refine z_iast hC hZ hM0 hb0 hi0 dX0_languageOf_278 (fun H locs hZ => ?_)
    generalize zu M _ _ = M at hw hZ
    refine lv_dup hx hb dX0_languageOf_279 rfl ?_
    refine lv_iconst (v := 3) hx hb dX0_languageOf_280 (by decide) ?_
    refine lv_iconst (v := 0) hx hb dX0_languageOf_281 (by decide) ?_
    obtain ⟨n0, f0, hM0, hb0, hi0, hw⟩ := hw
    refine z_iast hC hZ hM0 hb0 hi0 dX0_languageOf_282 (fun H locs hZ => ?_)
    generalize zu M _ _ = M at hw hZ
    refine lv_dup hx hb dX0_languageOf_283 rfl ?_
    refine lv_iconst (v := 4) hx hb dX0_languageOf_284 (by decide) ?_
    refine lv_iconst (v := 0) hx hb dX0_languageOf_285 (by decide) ?_
    obtain ⟨n0, f0, hM0, hb0, hi0, hw⟩ := hw
    refine z_iast hC hZ hM0 hb0 hi0 dX0_languageOf_286 (fun H locs hZ => ?_)
    generalize zu M _ _ = M at hw hZ
    refine lv_dup hx hb dX0_languageOf_287 rfl ?_
    refine lv_iconst (v := 5) hx hb dX0_languageOf_288 (by decide) ?_
    refine lv_iconst (v := 0) hx hb dX0_languageOf_289 (by decide) ?_
    obtain ⟨n0, f0, hM0, hb0, hi0, hw⟩ := hw
    refine z_iast hC hZ hM0 hb0 hi0 dX0_languageOf_290 (fun H locs hZ => ?_)
    generalize zu M _ _ = M at hw hZ
    obtain ⟨b133, hr0, hw⟩ := hw
    subst hr0
    obtain ⟨⟨ci0, fs0, hci0, hM0⟩, hw⟩ := hw
    obtain ⟨k135, n136, hk1, hn1, hw⟩ := hw
    obtain ⟨C0, T0, N0, ty0, hc0, hsel0⟩ : ∃ (C0 : String) (T0 : u_T) (N0 : Nat) (ty0 : Nat → FieldType), zCls ci0 C0 T0 N0 ty0 ∧ Cond.selects C0 ⟨"PluralBranches$Language", "with", "(Z[I)LPluralBranches$Language;"⟩ yX2_with ∈ lw_all := (zal ⟨_, _, _, _, zc2, q2254⟩ (zal ⟨_, _, _, _, zc4, q2253⟩ (zal ⟨_, _, _, _, zc5, q2252⟩ (zal ⟨_, _, _, _, zc6, q2255⟩ (za0)))) : ∀ ci ∈ [2, 4, 5, 6], ∃ (C0 : String) (T0 : u_T) (N0 : Nat) (ty0 : Nat → FieldType), zCls ci C0 T0 N0 ty0 ∧ Cond.selects C0 ⟨"PluralBranches$Language", "with", "(Z[I)LPluralBranches$Language;"⟩ yX2_with ∈ lw_all) ci0 hci0
    refine z_callR hZ (vx_runU (As := [.int (0 : Int32), .ref b132]) (rest := []) hC.fix (w_X2_with hlt hw) (va_cwU (owner := "PluralBranches$Language") (x := ⟨"PluralBranches$Language", "with", "(Z[I)LPluralBranches$Language;"⟩) 2 hts (lw_app (zal q349 (zal q2251 (zal hsel0 (zal q304 (zal q70 za0))))) (lw_meth q305)) rfl rfl rfl rfl (by decide +kernel) ⟨Nat.le_of_ble_eq_true rfl, Nat.le_of_ble_eq_true rfl⟩) (z_preV hC hZ hM0 hc0) rfl rfl hl.1 rfl (lv_room (Nat.zero_le _)) dX0_languageOf_291 ⟨(show cells + k135 ≤ k by omega), (show slots + n136 ≤ n by omega)⟩) (fun r134 M H locs hw1 hZ => ?_) (fun q M H locs ci fs E T9 N9 hw hZ hc1 hM1 hb1 => False.elim hw)
    replace hw := hw1
    clear hw1
    have hk : cells + k135 + ((((((((k - 1) - k121) - 1) - k125) - 1) - k130) - 1) - k135) ≤ k := by omega
    have hn : slots + n136 + ((((((((n - 3) - n122) - (6 : Int32).toNatClampNeg) - n126) - (6 : Int32).toNatClampNeg) - n131) - (6 : Int32).toNatClampNeg) - n136) ≤ n := by omega
    generalize cells + k135 = cells at hk ⊢
    generalize slots + n136 = slots at hn ⊢
    clear hk1 hn1
    refine lv_iconst (v := 0) hx hb dX0_languageOf_294 (by decide) ?_
    refine lv_bipush (v := 6) hx hb dX0_languageOf_295 (by decide) ?_
    obtain ⟨hx1, hx2, hk1, hn1, hw⟩ := hw
    refine z_newa (k := 0) (a0 := zna 0 (6 : Int32).toNatClampNeg) (atype := .int) hC hZ q336 rfl (by decide) (fun _ => rfl) hx1 rfl (z_bytes hx2 (by decide)) (show cells + 1 ≤ k by omega) (show slots + (6 : Int32).toNatClampNeg ≤ n by omega) dX0_languageOf_297 (fun b137 H hq0 hq1 hZ => ?_)
    replace hw := hw b137 hq0 hq1
    replace hZ : zS D (zu M b137 (some (.inl (0, zna 0 (6 : Int32).toNatClampNeg)))) _ _ := hZ
    refine W.cs (cells' := cells + 1) (slots' := slots + (6 : Int32).toNatClampNeg) rfl rfl ?_
    generalize zu M _ _ = M at hw hZ
    have hk : cells + 1 + (((((((((k - 1) - k121) - 1) - k125) - 1) - k130) - 1) - k135) - 1) ≤ k := by omega
    have hn : slots + (6 : Int32).toNatClampNeg + (((((((((n - 3) - n122) - (6 : Int32).toNatClampNeg) - n126) - (6 : Int32).toNatClampNeg) - n131) - (6 : Int32).toNatClampNeg) - n136) - (6 : Int32).toNatClampNeg) ≤ n := by omega
    generalize cells + 1 = cells at hk ⊢
    generalize slots + (6 : Int32).toNatClampNeg = slots at hn ⊢
    clear hk1 hn1 hx1 hx2
    refine lv_dup hx hb dX0_languageOf_299 rfl ?_
    refine lv_iconst (v := 0) hx hb dX0_languageOf_300 (by decide) ?_
    refine lv_iconst (v := 0) hx hb dX0_languageOf_301 (by decide) ?_
    obtain ⟨n0, f0, hM0, hb0, hi0, hw⟩ := hw
    refine z_iast hC hZ hM0 hb0 hi0 dX0_languageOf_302 (fun H locs hZ => ?_)
    generalize zu M _ _ = M at hw hZ
    refine lv_dup hx hb dX0_languageOf_303 rfl ?_
    refine lv_iconst (v := 1) hx hb dX0_languageOf_304 (by decide) ?_
    refine lv_iconst (v := 1) hx hb dX0_languageOf_305 (by decide) ?_
    obtain ⟨n0, f0, hM0, hb0, hi0, hw⟩ := hw
    refine z_iast hC hZ hM0 hb0 hi0 dX0_languageOf_306 (fun H locs hZ => ?_)
    generalize zu M _ _ = M at hw hZ
    refine lv_dup hx hb dX0_languageOf_307 rfl ?_
    refine lv_iconst (v := 2) hx hb dX0_languageOf_308 (by decide) ?_
    refine lv_iconst (v := 0) hx hb dX0_languageOf_309 (by decide) ?_
    obtain ⟨n0, f0, hM0, hb0, hi0, hw⟩ := hw
    refine z_iast hC hZ hM0 hb0 hi0 dX0_languageOf_310 (fun H locs hZ => ?_)
    generalize zu M _ _ = M at hw hZ
    refine lv_dup hx hb dX0_languageOf_311 rfl ?_
    refine lv_iconst (v := 3) hx hb dX0_languageOf_312 (by decide) ?_
    refine lv_bipush (v := 100) hx hb dX0_languageOf_313 (by decide) ?_
    obtain ⟨n0, f0, hM0, hb0, hi0, hw⟩ := hw
    refine z_iast hC hZ hM0 hb0 hi0 dX0_languageOf_315 (fun H locs hZ => ?_)
    generalize zu M _ _ = M at hw hZ
    refine lv_dup hx hb dX0_languageOf_316 rfl ?_
    refine lv_iconst (v := 4) hx hb dX0_languageOf_317 (by decide) ?_
    refine lv_bipush (v := 11) hx hb dX0_languageOf_318 (by decide) ?_
    obtain ⟨n0, f0, hM0, hb0, hi0, hw⟩ := hw
    refine z_iast hC hZ hM0 hb0 hi0 dX0_languageOf_320 (fun H locs hZ => ?_)
    generalize zu M _ _ = M at hw hZ
    refine lv_dup hx hb dX0_languageOf_321 rfl ?_
    refine lv_iconst (v := 5) hx hb dX0_languageOf_322 (by decide) ?_
    refine lv_bipush (v := 19) hx hb dX0_languageOf_323 (by decide) ?_
    obtain ⟨n0, f0, hM0, hb0, hi0, hw⟩ := hw
    refine z_iast hC hZ hM0 hb0 hi0 dX0_languageOf_325 (fun H locs hZ => ?_)
    generalize zu M _ _ = M at hw hZ
    obtain ⟨b138, hr0, hw⟩ := hw
    subst hr0
    obtain ⟨⟨ci0, fs0, hci0, hM0⟩, hw⟩ := hw
    obtain ⟨k140, n141, hk1, hn1, hw⟩ := hw
    obtain ⟨C0, T0, N0, ty0, hc0, hsel0⟩ : ∃ (C0 : String) (T0 : u_T) (N0 : Nat) (ty0 : Nat → FieldType), zCls ci0 C0 T0 N0 ty0 ∧ Cond.selects C0 ⟨"PluralBranches$Language", "with", "(Z[I)LPluralBranches$Language;"⟩ yX2_with ∈ lw_all := (zal ⟨_, _, _, _, zc2, q2254⟩ (zal ⟨_, _, _, _, zc4, q2253⟩ (zal ⟨_, _, _, _, zc5, q2252⟩ (zal ⟨_, _, _, _, zc6, q2255⟩ (za0)))) : ∀ ci ∈ [2, 4, 5, 6], ∃ (C0 : String) (T0 : u_T) (N0 : Nat) (ty0 : Nat → FieldType), zCls ci C0 T0 N0 ty0 ∧ Cond.selects C0 ⟨"PluralBranches$Language", "with", "(Z[I)LPluralBranches$Language;"⟩ yX2_with ∈ lw_all) ci0 hci0
    refine z_callR hZ (vx_runU (As := [.int (0 : Int32), .ref b137]) (rest := []) hC.fix (w_X2_with hlt hw) (va_cwU (owner := "PluralBranches$Language") (x := ⟨"PluralBranches$Language", "with", "(Z[I)LPluralBranches$Language;"⟩) 2 hts (lw_app (zal q349 (zal q2251 (zal hsel0 (zal q304 (zal q70 za0))))) (lw_meth q305)) rfl rfl rfl rfl (by decide +kernel) ⟨Nat.le_of_ble_eq_true rfl, Nat.le_of_ble_eq_true rfl⟩) (z_preV hC hZ hM0 hc0) rfl rfl hl.1 rfl (lv_room (Nat.zero_le _)) dX0_languageOf_326 ⟨(show cells + k140 ≤ k by omega), (show slots + n141 ≤ n by omega)⟩) (fun r139 M H locs hw1 hZ => ?_) (fun q M H locs ci fs E T9 N9 hw hZ hc1 hM1 hb1 => False.elim hw)
    replace hw := hw1
    clear hw1
    have hk : cells + k140 + ((((((((((k - 1) - k121) - 1) - k125) - 1) - k130) - 1) - k135) - 1) - k140) ≤ k := by omega
    have hn : slots + n141 + ((((((((((n - 3) - n122) - (6 : Int32).toNatClampNeg) - n126) - (6 : Int32).toNatClampNeg) - n131) - (6 : Int32).toNatClampNeg) - n136) - (6 : Int32).toNatClampNeg) - n141) ≤ n := by omega
    generalize cells + k140 = cells at hk ⊢
    generalize slots + n141 = slots at hn ⊢
    clear hk1 hn1
    refine lv_iconst (v := 0) hx hb dX0_languageOf_329 (by decide) ?_
    refine lv_bipush (v := 6) hx hb dX0_languageOf_330 (by decide) ?_
    obtain ⟨hx1, hx2, hk1, hn1, hw⟩ := hw
    refine z_newa (k := 0) (a0 := zna 0 (6 : Int32).toNatClampNeg) (atype := .int) hC hZ q336 rfl (by decide) (fun _ => rfl) hx1 rfl (z_bytes hx2 (by decide)) (show cells + 1 ≤ k by omega) (show slots + (6 : Int32).toNatClampNeg ≤ n by omega) dX0_languageOf_332 (fun b142 H hq0 hq1 hZ => ?_)
    replace hw := hw b142 hq0 hq1
    replace hZ : zS D (zu M b142 (some (.inl (0, zna 0 (6 : Int32).toNatClampNeg)))) _ _ := hZ
    refine W.cs (cells' := cells + 1) (slots' := slots + (6 : Int32).toNatClampNeg) rfl rfl ?_
    generalize zu M _ _ = M at hw hZ
    have hk : cells + 1 + (((((((((((k - 1) - k121) - 1) - k125) - 1) - k130) - 1) - k135) - 1) - k140) - 1) ≤ k := by omega
    have hn : slots + (6 : Int32).toNatClampNeg + (((((((((((n - 3) - n122) - (6 : Int32).toNatClampNeg) - n126) - (6 : Int32).toNatClampNeg) - n131) - (6 : Int32).toNatClampNeg) - n136) - (6 : Int32).toNatClampNeg) - n141) - (6 : Int32).toNatClampNeg) ≤ n := by omega
    generalize cells + 1 = cells at hk ⊢
    generalize slots + (6 : Int32).toNatClampNeg = slots at hn ⊢
    clear hk1 hn1 hx1 hx2
    refine lv_dup hx hb dX0_languageOf_334 rfl ?_
    refine lv_iconst (v := 0) hx hb dX0_languageOf_335 (by decide) ?_
    refine lv_iconst (v := 1) hx hb dX0_languageOf_336 (by decide) ?_
    obtain ⟨n0, f0, hM0, hb0, hi0, hw⟩ := hw
    refine z_iast hC hZ hM0 hb0 hi0 dX0_languageOf_337 (fun H locs hZ => ?_)
    generalize zu M _ _ = M at hw hZ
    refine lv_dup hx hb dX0_languageOf_338 rfl ?_
    refine lv_iconst (v := 1) hx hb dX0_languageOf_339 (by decide) ?_
    refine lv_iconst (v := 0) hx hb dX0_languageOf_340 (by decide) ?_
    obtain ⟨n0, f0, hM0, hb0, hi0, hw⟩ := hw
    refine z_iast hC hZ hM0 hb0 hi0 dX0_languageOf_341 (fun H locs hZ => ?_)
    generalize zu M _ _ = M at hw hZ
    refine lv_dup hx hb dX0_languageOf_342 rfl ?_
    refine lv_iconst (v := 2) hx hb dX0_languageOf_343 (by decide) ?_
    refine lv_iconst (v := 1) hx hb dX0_languageOf_344 (by decide) ?_
    obtain ⟨n0, f0, hM0, hb0, hi0, hw⟩ := hw
    refine z_iast hC hZ hM0 hb0 hi0 dX0_languageOf_345 (fun H locs hZ => ?_)
    generalize zu M _ _ = M at hw hZ
    refine lv_dup hx hb dX0_languageOf_346 rfl ?_
    refine lv_iconst (v := 3) hx hb dX0_languageOf_347 (by decide) ?_
    refine lv_iconst (v := 0) hx hb dX0_languageOf_348 (by decide) ?_
    obtain ⟨n0, f0, hM0, hb0, hi0, hw⟩ := hw
    refine z_iast hC hZ hM0 hb0 hi0 dX0_languageOf_349 (fun H locs hZ => ?_)
    generalize zu M _ _ = M at hw hZ
    refine lv_dup hx hb dX0_languageOf_350 rfl ?_
    refine lv_iconst (v := 4) hx hb dX0_languageOf_351 (by decide) ?_
    refine lv_iconst (v := 0) hx hb dX0_languageOf_352 (by decide) ?_
    obtain ⟨n0, f0, hM0, hb0, hi0, hw⟩ := hw
    refine z_iast hC hZ hM0 hb0 hi0 dX0_languageOf_353 (fun H locs hZ => ?_)
    generalize zu M _ _ = M at hw hZ
    refine lv_dup hx hb dX0_languageOf_354 rfl ?_
    refine lv_iconst (v := 5) hx hb dX0_languageOf_355 (by decide) ?_
    refine lv_iconst (v := 0) hx hb dX0_languageOf_356 (by decide) ?_
    obtain ⟨n0, f0, hM0, hb0, hi0, hw⟩ := hw
    refine z_iast hC hZ hM0 hb0 hi0 dX0_languageOf_357 (fun H locs hZ => ?_)
    generalize zu M _ _ = M at hw hZ
    obtain ⟨b143, hr0, hw⟩ := hw
    subst hr0
    obtain ⟨⟨ci0, fs0, hci0, hM0⟩, hw⟩ := hw
    obtain ⟨k145, n146, hk1, hn1, hw⟩ := hw
    obtain ⟨C0, T0, N0, ty0, hc0, hsel0⟩ : ∃ (C0 : String) (T0 : u_T) (N0 : Nat) (ty0 : Nat → FieldType), zCls ci0 C0 T0 N0 ty0 ∧ Cond.selects C0 ⟨"PluralBranches$Language", "with", "(Z[I)LPluralBranches$Language;"⟩ yX2_with ∈ lw_all := (zal ⟨_, _, _, _, zc2, q2254⟩ (zal ⟨_, _, _, _, zc4, q2253⟩ (zal ⟨_, _, _, _, zc5, q2252⟩ (zal ⟨_, _, _, _, zc6, q2255⟩ (za0)))) : ∀ ci ∈ [2, 4, 5, 6], ∃ (C0 : String) (T0 : u_T) (N0 : Nat) (ty0 : Nat → FieldType), zCls ci C0 T0 N0 ty0 ∧ Cond.selects C0 ⟨"PluralBranches$Language", "with", "(Z[I)LPluralBranches$Language;"⟩ yX2_with ∈ lw_all) ci0 hci0
    refine z_callR hZ (vx_runU (As := [.int (0 : Int32), .ref b142]) (rest := []) hC.fix (w_X2_with hlt hw) (va_cwU (owner := "PluralBranches$Language") (x := ⟨"PluralBranches$Language", "with", "(Z[I)LPluralBranches$Language;"⟩) 2 hts (lw_app (zal q349 (zal q2251 (zal hsel0 (zal q304 (zal q70 za0))))) (lw_meth q305)) rfl rfl rfl rfl (by decide +kernel) ⟨Nat.le_of_ble_eq_true rfl, Nat.le_of_ble_eq_true rfl⟩) (z_preV hC hZ hM0 hc0) rfl rfl hl.1 rfl (lv_room (Nat.zero_le _)) dX0_languageOf_358 ⟨(show cells + k145 ≤ k by omega), (show slots + n146 ≤ n by omega)⟩) (fun r144 M H locs hw1 hZ => ?_) (fun q M H locs ci fs E T9 N9 hw hZ hc1 hM1 hb1 => False.elim hw)
    replace hw := hw1
    clear hw1
    have hk : cells + k145 + ((((((((((((k - 1) - k121) - 1) - k125) - 1) - k130) - 1) - k135) - 1) - k140) - 1) - k145) ≤ k := by omega
    have hn : slots + n146 + ((((((((((((n - 3) - n122) - (6 : Int32).toNatClampNeg) - n126) - (6 : Int32).toNatClampNeg) - n131) - (6 : Int32).toNatClampNeg) - n136) - (6 : Int32).toNatClampNeg) - n141) - (6 : Int32).toNatClampNeg) - n146) ≤ n := by omega
    generalize cells + k145 = cells at hk ⊢
    generalize slots + n146 = slots at hn ⊢
    clear hk1 hn1
    refine lv_iconst (v := 0) hx hb dX0_languageOf_361 (by decide) ?_
    refine lv_bipush (v := 6) hx hb dX0_languageOf_362 (by decide) ?_
    obtain ⟨hx1, hx2, hk1, hn1, hw⟩ := hw
    refine z_newa (k := 0) (a0 := zna 0 (6 : Int32).toNatClampNeg) (atype := .int) hC hZ q336 rfl (by decide) (fun _ => rfl) hx1 rfl (z_bytes hx2 (by decide)) (show cells + 1 ≤ k by omega) (show slots + (6 : Int32).toNatClampNeg ≤ n by omega) dX0_languageOf_364 (fun b147 H hq0 hq1 hZ => ?_)
    replace hw := hw b147 hq0 hq1
    replace hZ : zS D (zu M b147 (some (.inl (0, zna 0 (6 : Int32).toNatClampNeg)))) _ _ := hZ
    refine W.cs (cells' := cells + 1) (slots' := slots + (6 : Int32).toNatClampNeg) rfl rfl ?_
    generalize zu M _ _ = M at hw hZ
    have hk : cells + 1 + (((((((((((((k - 1) - k121) - 1) - k125) - 1) - k130) - 1) - k135) - 1) - k140) - 1) - k145) - 1) ≤ k := by omega
    have hn : slots + (6 : Int32).toNatClampNeg + (((((((((((((n - 3) - n122) - (6 : Int32).toNatClampNeg) - n126) - (6 : Int32).toNatClampNeg) - n131) - (6 : Int32).toNatClampNeg) - n136) - (6 : Int32).toNatClampNeg) - n141) - (6 : Int32).toNatClampNeg) - n146) - (6 : Int32).toNatClampNeg) ≤ n := by omega
    generalize cells + 1 = cells at hk ⊢
    generalize slots + (6 : Int32).toNatClampNeg = slots at hn ⊢
    clear hk1 hn1 hx1 hx2
    refine lv_dup hx hb dX0_languageOf_366 rfl ?_
    refine lv_iconst (v := 0) hx hb dX0_languageOf_367 (by decide) ?_
    refine lv_iconst (v := 1) hx hb dX0_languageOf_368 (by decide) ?_
    obtain ⟨n0, f0, hM0, hb0, hi0, hw⟩ := hw
    refine z_iast hC hZ hM0 hb0 hi0 dX0_languageOf_369 (fun H locs hZ => ?_)
    generalize zu M _ _ = M at hw hZ
    refine lv_dup hx hb dX0_languageOf_370 rfl ?_
    refine lv_iconst (v := 1) hx hb dX0_languageOf_371 (by decide) ?_
    refine lv_iconst (v := 0) hx hb dX0_languageOf_372 (by decide) ?_
    obtain ⟨n0, f0, hM0, hb0, hi0, hw⟩ := hw
    refine z_iast hC hZ hM0 hb0 hi0 dX0_languageOf_373 (fun H locs hZ => ?_)
    generalize zu M _ _ = M at hw hZ
    refine lv_dup hx hb dX0_languageOf_374 rfl ?_
    refine lv_iconst (v := 2) hx hb dX0_languageOf_375 (by decide) ?_
    refine lv_iconst (v := 0) hx hb dX0_languageOf_376 (by decide) ?_
    obtain ⟨n0, f0, hM0, hb0, hi0, hw⟩ := hw
    refine z_iast hC hZ hM0 hb0 hi0 dX0_languageOf_377 (fun H locs hZ => ?_)
    generalize zu M _ _ = M at hw hZ
    refine lv_dup hx hb dX0_languageOf_378 rfl ?_
    refine lv_iconst (v := 3) hx hb dX0_languageOf_379 (by decide) ?_
    refine lv_bipush (v := 10) hx hb dX0_languageOf_380 (by decide) ?_
    obtain ⟨n0, f0, hM0, hb0, hi0, hw⟩ := hw
    refine z_iast hC hZ hM0 hb0 hi0 dX0_languageOf_382 (fun H locs hZ => ?_)
    generalize zu M _ _ = M at hw hZ
    refine lv_dup hx hb dX0_languageOf_383 rfl ?_
    refine lv_iconst (v := 4) hx hb dX0_languageOf_384 (by decide) ?_
    refine lv_iconst (v := 1) hx hb dX0_languageOf_385 (by decide) ?_
    obtain ⟨n0, f0, hM0, hb0, hi0, hw⟩ := hw
    refine z_iast hC hZ hM0 hb0 hi0 dX0_languageOf_386 (fun H locs hZ => ?_)
    generalize zu M _ _ = M at hw hZ
    refine lv_dup hx hb dX0_languageOf_387 rfl ?_
    refine lv_iconst (v := 5) hx hb dX0_languageOf_388 (by decide) ?_
    refine lv_iconst (v := 1) hx hb dX0_languageOf_389 (by decide) ?_
    obtain ⟨n0, f0, hM0, hb0, hi0, hw⟩ := hw
    refine z_iast hC hZ hM0 hb0 hi0 dX0_languageOf_390 (fun H locs hZ => ?_)
    generalize zu M _ _ = M at hw hZ
    obtain ⟨b148, hr0, hw⟩ := hw
    subst hr0
    obtain ⟨⟨ci0, fs0, hci0, hM0⟩, hw⟩ := hw
    obtain ⟨k150, n151, hk1, hn1, hw⟩ := hw
    obtain ⟨C0, T0, N0, ty0, hc0, hsel0⟩ : ∃ (C0 : String) (T0 : u_T) (N0 : Nat) (ty0 : Nat → FieldType), zCls ci0 C0 T0 N0 ty0 ∧ Cond.selects C0 ⟨"PluralBranches$Language", "with", "(Z[I)LPluralBranches$Language;"⟩ yX2_with ∈ lw_all := (zal ⟨_, _, _, _, zc2, q2254⟩ (zal ⟨_, _, _, _, zc4, q2253⟩ (zal ⟨_, _, _, _, zc5, q2252⟩ (zal ⟨_, _, _, _, zc6, q2255⟩ (za0)))) : ∀ ci ∈ [2, 4, 5, 6], ∃ (C0 : String) (T0 : u_T) (N0 : Nat) (ty0 : Nat → FieldType), zCls ci C0 T0 N0 ty0 ∧ Cond.selects C0 ⟨"PluralBranches$Language", "with", "(Z[I)LPluralBranches$Language;"⟩ yX2_with ∈ lw_all) ci0 hci0
    refine z_callR hZ (vx_runU (As := [.int (0 : Int32), .ref b147]) (rest := []) hC.fix (w_X2_with hlt hw) (va_cwU (owner := "PluralBranches$Language") (x := ⟨"PluralBranches$Language", "with", "(Z[I)LPluralBranches$Language;"⟩) 2 hts (lw_app (zal q349 (zal q2251 (zal hsel0 (zal q304 (zal q70 za0))))) (lw_meth q305)) rfl rfl rfl rfl (by decide +kernel) ⟨Nat.le_of_ble_eq_true rfl, Nat.le_of_ble_eq_true rfl⟩) (z_preV hC hZ hM0 hc0) rfl rfl hl.1 rfl (lv_room (Nat.zero_le _)) dX0_languageOf_391 ⟨(show cells + k150 ≤ k by omega), (show slots + n151 ≤ n by omega)⟩) (fun r149 M H locs hw1 hZ => ?_) (fun q M H locs ci fs E T9 N9 hw hZ hc1 hM1 hb1 => False.elim hw)
    replace hw := hw1
    clear hw1
    have hk : cells + k150 + ((((((((((((((k - 1) - k121) - 1) - k125) - 1) - k130) - 1) - k135) - 1) - k140) - 1) - k145) - 1) - k150) ≤ k := by omega
    have hn : slots + n151 + ((((((((((((((n - 3) - n122) - (6 : Int32).toNatClampNeg) - n126) - (6 : Int32).toNatClampNeg) - n131) - (6 : Int32).toNatClampNeg) - n136) - (6 : Int32).toNatClampNeg) - n141) - (6 : Int32).toNatClampNeg) - n146) - (6 : Int32).toNatClampNeg) - n151) ≤ n := by omega
    generalize cells + k150 = cells at hk ⊢
    generalize slots + n151 = slots at hn ⊢
    clear hk1 hn1
    refine lv_iconst (v := 1) hx hb dX0_languageOf_394 (by decide) ?_
    refine lv_bipush (v := 6) hx hb dX0_languageOf_395 (by decide) ?_
    obtain ⟨hx1, hx2, hk1, hn1, hw⟩ := hw
    refine z_newa (k := 0) (a0 := zna 0 (6 : Int32).toNatClampNeg) (atype := .int) hC hZ q336 rfl (by decide) (fun _ => rfl) hx1 rfl (z_bytes hx2 (by decide)) (show cells + 1 ≤ k by omega) (show slots + (6 : Int32).toNatClampNeg ≤ n by omega) dX0_languageOf_397 (fun b152 H hq0 hq1 hZ => ?_)
    replace hw := hw b152 hq0 hq1
    replace hZ : zS D (zu M b152 (some (.inl (0, zna 0 (6 : Int32).toNatClampNeg)))) _ _ := hZ
    refine W.cs (cells' := cells + 1) (slots' := slots + (6 : Int32).toNatClampNeg) rfl rfl ?_
    generalize zu M _ _ = M at hw hZ
    have hk : cells + 1 + (((((((((((((((k - 1) - k121) - 1) - k125) - 1) - k130) - 1) - k135) - 1) - k140) - 1) - k145) - 1) - k150) - 1) ≤ k := by omega
    have hn : slots + (6 : Int32).toNatClampNeg + (((((((((((((((n - 3) - n122) - (6 : Int32).toNatClampNeg) - n126) - (6 : Int32).toNatClampNeg) - n131) - (6 : Int32).toNatClampNeg) - n136) - (6 : Int32).toNatClampNeg) - n141) - (6 : Int32).toNatClampNeg) - n146) - (6 : Int32).toNatClampNeg) - n151) - (6 : Int32).toNatClampNeg) ≤ n := by omega
    generalize cells + 1 = cells at hk ⊢
    generalize slots + (6 : Int32).toNatClampNeg = slots at hn ⊢
    clear hk1 hn1 hx1 hx2
    refine lv_dup hx hb dX0_languageOf_399 rfl ?_
    refine lv_iconst (v := 0) hx hb dX0_languageOf_400 (by decide) ?_
    refine lv_iconst (v := 1) hx hb dX0_languageOf_401 (by decide) ?_
    obtain ⟨n0, f0, hM0, hb0, hi0, hw⟩ := hw
    refine z_iast hC hZ hM0 hb0 hi0 dX0_languageOf_402 (fun H locs hZ => ?_)
    generalize zu M _ _ = M at hw hZ
    refine lv_dup hx hb dX0_languageOf_403 rfl ?_
    refine lv_iconst (v := 1) hx hb dX0_languageOf_404 (by decide) ?_
    refine lv_iconst (v := 1) hx hb dX0_languageOf_405 (by decide) ?_
    obtain ⟨n0, f0, hM0, hb0, hi0, hw⟩ := hw
    refine z_iast hC hZ hM0 hb0 hi0 dX0_languageOf_406 (fun H locs hZ => ?_)
    generalize zu M _ _ = M at hw hZ
    refine lv_dup hx hb dX0_languageOf_407 rfl ?_
    refine lv_iconst (v := 2) hx hb dX0_languageOf_408 (by decide) ?_
    refine lv_iconst (v := 1) hx hb dX0_languageOf_409 (by decide) ?_
    obtain ⟨n0, f0, hM0, hb0, hi0, hw⟩ := hw
    refine z_iast hC hZ hM0 hb0 hi0 dX0_languageOf_410 (fun H locs hZ => ?_)
    generalize zu M _ _ = M at hw hZ
    refine lv_dup hx hb dX0_languageOf_411 rfl ?_
    refine lv_iconst (v := 3) hx hb dX0_languageOf_412 (by decide) ?_
    refine lv_iconst (v := 0) hx hb dX0_languageOf_413 (by decide) ?_
    obtain ⟨n0, f0, hM0, hb0, hi0, hw⟩ := hw
    refine z_iast hC hZ hM0 hb0 hi0 dX0_languageOf_414 (fun H locs hZ => ?_)
    generalize zu M _ _ = M at hw hZ
    refine lv_dup hx hb dX0_languageOf_415 rfl ?_
    refine lv_iconst (v := 4) hx hb dX0_languageOf_416 (by decide) ?_
    refine lv_iconst (v := 0) hx hb dX0_languageOf_417 (by decide) ?_
    obtain ⟨n0, f0, hM0, hb0, hi0, hw⟩ := hw
    refine z_iast hC hZ hM0 hb0 hi0 dX0_languageOf_418 (fun H locs hZ => ?_)
    generalize zu M _ _ = M at hw hZ
    refine lv_dup hx hb dX0_languageOf_419 rfl ?_
    refine lv_iconst (v := 5) hx hb dX0_languageOf_420 (by decide) ?_
    refine lv_iconst (v := 0) hx hb dX0_languageOf_421 (by decide) ?_
    obtain ⟨n0, f0, hM0, hb0, hi0, hw⟩ := hw
    refine z_iast hC hZ hM0 hb0 hi0 dX0_languageOf_422 (fun H locs hZ => ?_)
    generalize zu M _ _ = M at hw hZ
    obtain ⟨b153, hr0, hw⟩ := hw
    subst hr0
    obtain ⟨⟨ci0, fs0, hci0, hM0⟩, hw⟩ := hw
    obtain ⟨k155, n156, hk1, hn1, hw⟩ := hw
    obtain ⟨C0, T0, N0, ty0, hc0, hsel0⟩ : ∃ (C0 : String) (T0 : u_T) (N0 : Nat) (ty0 : Nat → FieldType), zCls ci0 C0 T0 N0 ty0 ∧ Cond.selects C0 ⟨"PluralBranches$Language", "with", "(Z[I)LPluralBranches$Language;"⟩ yX2_with ∈ lw_all := (zal ⟨_, _, _, _, zc2, q2254⟩ (zal ⟨_, _, _, _, zc4, q2253⟩ (zal ⟨_, _, _, _, zc5, q2252⟩ (zal ⟨_, _, _, _, zc6, q2255⟩ (za0)))) : ∀ ci ∈ [2, 4, 5, 6], ∃ (C0 : String) (T0 : u_T) (N0 : Nat) (ty0 : Nat → FieldType), zCls ci C0 T0 N0 ty0 ∧ Cond.selects C0 ⟨"PluralBranches$Language", "with", "(Z[I)LPluralBranches$Language;"⟩ yX2_with ∈ lw_all) ci0 hci0
    refine z_callR hZ (vx_runU (As := [.int (1 : Int32), .ref b152]) (rest := []) hC.fix (w_X2_with hlt hw) (va_cwU (owner := "PluralBranches$Language") (x := ⟨"PluralBranches$Language", "with", "(Z[I)LPluralBranches$Language;"⟩) 2 hts (lw_app (zal q349 (zal q2251 (zal hsel0 (zal q304 (zal q70 za0))))) (lw_meth q305)) rfl rfl rfl rfl (by decide +kernel) ⟨Nat.le_of_ble_eq_true rfl, Nat.le_of_ble_eq_true rfl⟩) (z_preV hC hZ hM0 hc0) rfl rfl hl.1 rfl (lv_room (Nat.zero_le _)) dX0_languageOf_423 ⟨(show cells + k155 ≤ k by omega), (show slots + n156 ≤ n by omega)⟩) (fun r154 M H locs hw1 hZ => ?_) (fun q M H locs ci fs E T9 N9 hw hZ hc1 hM1 hb1 => False.elim hw)
    replace hw := hw1
    clear hw1
    have hk : cells + k155 + ((((((((((((((((k - 1) - k121) - 1) - k125) - 1) - k130) - 1) - k135) - 1) - k140) - 1) - k145) - 1) - k150) - 1) - k155) ≤ k := by omega
    have hn : slots + n156 + ((((((((((((((((n - 3) - n122) - (6 : Int32).toNatClampNeg) - n126) - (6 : Int32).toNatClampNeg) - n131) - (6 : Int32).toNatClampNeg) - n136) - (6 : Int32).toNatClampNeg) - n141) - (6 : Int32).toNatClampNeg) - n146) - (6 : Int32).toNatClampNeg) - n151) - (6 : Int32).toNatClampNeg) - n156) ≤ n := by omega
    generalize cells + k155 = cells at hk ⊢
    generalize slots + n156 = slots at hn ⊢
    clear hk1 hn1
    refine lv_iconst (v := 0) hx hb dX0_languageOf_426 (by decide) ?_
    refine lv_bipush (v := 6) hx hb dX0_languageOf_427 (by decide) ?_
    obtain ⟨hx1, hx2, hk1, hn1, hw⟩ := hw
    refine z_newa (k := 0) (a0 := zna 0 (6 : Int32).toNatClampNeg) (atype := .int) hC hZ q336 rfl (by decide) (fun _ => rfl) hx1 rfl (z_bytes hx2 (by decide)) (show cells + 1 ≤ k by omega) (show slots + (6 : Int32).toNatClampNeg ≤ n by omega) dX0_languageOf_429 (fun b157 H hq0 hq1 hZ => ?_)
    replace hw := hw b157 hq0 hq1
    replace hZ : zS D (zu M b157 (some (.inl (0, zna 0 (6 : Int32).toNatClampNeg)))) _ _ := hZ
    refine W.cs (cells' := cells + 1) (slots' := slots + (6 : Int32).toNatClampNeg) rfl rfl ?_
    generalize zu M _ _ = M at hw hZ
    have hk : cells + 1 + (((((((((((((((((k - 1) - k121) - 1) - k125) - 1) - k130) - 1) - k135) - 1) - k140) - 1) - k145) - 1) - k150) - 1) - k155) - 1) ≤ k := by omega
    have hn : slots + (6 : Int32).toNatClampNeg + (((((((((((((((((n - 3) - n122) - (6 : Int32).toNatClampNeg) - n126) - (6 : Int32).toNatClampNeg) - n131) - (6 : Int32).toNatClampNeg) - n136) - (6 : Int32).toNatClampNeg) - n141) - (6 : Int32).toNatClampNeg) - n146) - (6 : Int32).toNatClampNeg) - n151) - (6 : Int32).toNatClampNeg) - n156) - (6 : Int32).toNatClampNeg) ≤ n := by omega
    generalize cells + 1 = cells at hk ⊢
    generalize slots + (6 : Int32).toNatClampNeg = slots at hn ⊢
    clear hk1 hn1 hx1 hx2
    refine lv_dup hx hb dX0_languageOf_431 rfl ?_
    refine lv_iconst (v := 0) hx hb dX0_languageOf_432 (by decide) ?_
    refine lv_iconst (v := 1) hx hb dX0_languageOf_433 (by decide) ?_
    obtain ⟨n0, f0, hM0, hb0, hi0, hw⟩ := hw
    refine z_iast hC hZ hM0 hb0 hi0 dX0_languageOf_434 (fun H locs hZ => ?_)
    generalize zu M _ _ = M at hw hZ
    refine lv_dup hx hb dX0_languageOf_435 rfl ?_
    refine lv_iconst (v := 1) hx hb dX0_languageOf_436 (by decide) ?_
    refine lv_iconst (v := 1) hx hb dX0_languageOf_437 (by decide) ?_
    obtain ⟨n0, f0, hM0, hb0, hi0, hw⟩ := hw
    refine z_iast hC hZ hM0 hb0 hi0 dX0_languageOf_438 (fun H locs hZ => ?_)
    generalize zu M _ _ = M at hw hZ
    refine lv_dup hx hb dX0_languageOf_439 rfl ?_
    refine lv_iconst (v := 2) hx hb dX0_languageOf_440 (by decide) ?_
    refine lv_iconst (v := 2) hx hb dX0_languageOf_441 (by decide) ?_
    obtain ⟨n0, f0, hM0, hb0, hi0, hw⟩ := hw
    refine z_iast hC hZ hM0 hb0 hi0 dX0_languageOf_442 (fun H locs hZ => ?_)
    generalize zu M _ _ = M at hw hZ
    refine lv_dup hx hb dX0_languageOf_443 rfl ?_
    refine lv_iconst (v := 3) hx hb dX0_languageOf_444 (by decide) ?_
    refine lv_bipush (v := 10) hx hb dX0_languageOf_445 (by decide) ?_
    obtain ⟨n0, f0, hM0, hb0, hi0, hw⟩ := hw
    refine z_iast hC hZ hM0 hb0 hi0 dX0_languageOf_447 (fun H locs hZ => ?_)
    generalize zu M _ _ = M at hw hZ
    refine lv_dup hx hb dX0_languageOf_448 rfl ?_
    refine lv_iconst (v := 4) hx hb dX0_languageOf_449 (by decide) ?_
    refine lv_iconst (v := 1) hx hb dX0_languageOf_450 (by decide) ?_
    obtain ⟨n0, f0, hM0, hb0, hi0, hw⟩ := hw
    refine z_iast hC hZ hM0 hb0 hi0 dX0_languageOf_451 (fun H locs hZ => ?_)
    generalize zu M _ _ = M at hw hZ
    refine lv_dup hx hb dX0_languageOf_452 rfl ?_
    refine lv_iconst (v := 5) hx hb dX0_languageOf_453 (by decide) ?_
    refine lv_iconst (v := 1) hx hb dX0_languageOf_454 (by decide) ?_
    obtain ⟨n0, f0, hM0, hb0, hi0, hw⟩ := hw
    refine z_iast hC hZ hM0 hb0 hi0 dX0_languageOf_455 (fun H locs hZ => ?_)
    generalize zu M _ _ = M at hw hZ
    obtain ⟨b158, hr0, hw⟩ := hw
    subst hr0
    obtain ⟨⟨ci0, fs0, hci0, hM0⟩, hw⟩ := hw
    obtain ⟨k160, n161, hk1, hn1, hw⟩ := hw
    obtain ⟨C0, T0, N0, ty0, hc0, hsel0⟩ : ∃ (C0 : String) (T0 : u_T) (N0 : Nat) (ty0 : Nat → FieldType), zCls ci0 C0 T0 N0 ty0 ∧ Cond.selects C0 ⟨"PluralBranches$Language", "with", "(Z[I)LPluralBranches$Language;"⟩ yX2_with ∈ lw_all := (zal ⟨_, _, _, _, zc2, q2254⟩ (zal ⟨_, _, _, _, zc4, q2253⟩ (zal ⟨_, _, _, _, zc5, q2252⟩ (zal ⟨_, _, _, _, zc6, q2255⟩ (za0)))) : ∀ ci ∈ [2, 4, 5, 6], ∃ (C0 : String) (T0 : u_T) (N0 : Nat) (ty0 : Nat → FieldType), zCls ci C0 T0 N0 ty0 ∧ Cond.selects C0 ⟨"PluralBranches$Language", "with", "(Z[I)LPluralBranches$Language;"⟩ yX2_with ∈ lw_all) ci0 hci0
    refine z_callR hZ (vx_runU (As := [.int (0 : Int32), .ref b157]) (rest := []) hC.fix (w_X2_with hlt hw) (va_cwU (owner := "PluralBranches$Language") (x := ⟨"PluralBranches$Language", "with", "(Z[I)LPluralBranches$Language;"⟩) 2 hts (lw_app (zal q349 (zal q2251 (zal hsel0 (zal q304 (zal q70 za0))))) (lw_meth q305)) rfl rfl rfl rfl (by decide +kernel) ⟨Nat.le_of_ble_eq_true rfl, Nat.le_of_ble_eq_true rfl⟩) (z_preV hC hZ hM0 hc0) rfl rfl hl.1 rfl (lv_room (Nat.zero_le _)) dX0_languageOf_456 ⟨(show cells + k160 ≤ k by omega), (show slots + n161 ≤ n by omega)⟩) (fun r159 M H locs hw1 hZ => ?_) (fun q M H locs ci fs E T9 N9 hw hZ hc1 hM1 hb1 => False.elim hw)
    replace hw := hw1
    clear hw1
    have hk : cells + k160 + ((((((((((((((((((k - 1) - k121) - 1) - k125) - 1) - k130) - 1) - k135) - 1) - k140) - 1) - k145) - 1) - k150) - 1) - k155) - 1) - k160) ≤ k := by omega
    have hn : slots + n161 + ((((((((((((((((((n - 3) - n122) - (6 : Int32).toNatClampNeg) - n126) - (6 : Int32).toNatClampNeg) - n131) - (6 : Int32).toNatClampNeg) - n136) - (6 : Int32).toNatClampNeg) - n141) - (6 : Int32).toNatClampNeg) - n146) - (6 : Int32).toNatClampNeg) - n151) - (6 : Int32).toNatClampNeg) - n156) - (6 : Int32).toNatClampNeg) - n161) ≤ n := by omega
    generalize cells + k160 = cells at hk ⊢
    generalize slots + n161 = slots at hn ⊢
    clear hk1 hn1
    exact z_aret (r := r159) hG (Or.inl ⟨_, rfl⟩) hZ (by omega) (by omega) hw dX0_languageOf_459
  by_cases e181 : a0 = 4
  · replace hw := hw.2.2.2.1 e181
    refine lv_tableIn (tgt := 460) (off := 459) hx hb dX0_languageOf_1 (by rw [e181]; decide) (by rw [e181]; decide) (by rw [e181]; decide) (by decide) ?_
    obtain ⟨hk1, hn1, hw⟩ := hw
    refine z_new (fs := [.null, .null]) hC hZ zc4 q351 q352 q79 (zdefs (N := 2) (ty := tyX5) (fs := [.null, .null]) (by decide)) (show cells + 1 ≤ k by omega) (show slots + 2 ≤ n by omega) dX0_languageOf_460 (fun b162 H hq0 hq1 hZ => ?_)
    replace hw := hw b162 hq0 hq1
    generalize zu M _ _ = M at hw hZ
    have hk : cells + 1 + (k - 1) ≤ k := by omega
    have hn : slots + 2 + (n - 2) ≤ n := by omega
    generalize cells + 1 = cells at hk ⊢
    generalize slots + 2 = slots at hn ⊢
    clear hk1 hn1
    refine lv_dup hx hb dX0_languageOf_463 rfl ?_
    obtain ⟨k164, n165, hk1, hn1, hw⟩ := hw
    refine z_callU hZ (vx_runIN (As := []) (rest := [.ref b162]) hC.fix (w_X5_init hlt hw) ⟨va_cnB 0 hts (lw_meth q355) rfl rfl rfl (hC.nw q353 rfl) (hts _ q79) dd_X5_init ⟨Nat.le_of_ble_eq_true rfl, Nat.le_of_ble_eq_true rfl⟩, rfl, hts _ q354⟩ (z_preS hC hZ) rfl rfl hl.1 rfl (lv_room (Nat.le_trans (zrm1 rfl zrm0) (Nat.le_of_ble_eq_true rfl))) dX0_languageOf_464 ⟨(show cells + k164 ≤ k by omega), (show slots + n165 ≤ n by omega)⟩) (fun r163 M H locs hw1 hZ => ?_) (fun q M H locs ci fs E T9 N9 hw hZ hc1 hM1 hb1 => False.elim hw)
    replace hw := hw1
    clear hw1
    have hk : cells + k164 + ((k - 1) - k164) ≤ k := by omega
    have hn : slots + n165 + ((n - 2) - n165) ≤ n := by omega
    generalize cells + k164 = cells at hk ⊢
    generalize slots + n165 = slots at hn ⊢
    clear hk1 hn1
    refine lv_iconst (v := 0) hx hb dX0_languageOf_467 (by decide) ?_
    refine lv_bipush (v := 6) hx hb dX0_languageOf_468 (by decide) ?_
    obtain ⟨hx1, hx2, hk1, hn1, hw⟩ := hw
    refine z_newa (k := 0) (a0 := zna 0 (6 : Int32).toNatClampNeg) (atype := .int) hC hZ q336 rfl (by decide) (fun _ => rfl) hx1 rfl (z_bytes hx2 (by decide)) (show cells + 1 ≤ k by omega) (show slots + (6 : Int32).toNatClampNeg ≤ n by omega) dX0_languageOf_470 (fun b166 H hq0 hq1 hZ => ?_)
    replace hw := hw b166 hq0 hq1
    replace hZ : zS D (zu M b166 (some (.inl (0, zna 0 (6 : Int32).toNatClampNeg)))) _ _ := hZ
    refine W.cs (cells' := cells + 1) (slots' := slots + (6 : Int32).toNatClampNeg) rfl rfl ?_
    generalize zu M _ _ = M at hw hZ
    have hk : cells + 1 + (((k - 1) - k164) - 1) ≤ k := by omega
    have hn : slots + (6 : Int32).toNatClampNeg + (((n - 2) - n165) - (6 : Int32).toNatClampNeg) ≤ n := by omega
    generalize cells + 1 = cells at hk ⊢
    generalize slots + (6 : Int32).toNatClampNeg = slots at hn ⊢
    clear hk1 hn1 hx1 hx2
    refine lv_dup hx hb dX0_languageOf_472 rfl ?_
    refine lv_iconst (v := 0) hx hb dX0_languageOf_473 (by decide) ?_
    refine lv_iconst (v := 4) hx hb dX0_languageOf_474 (by decide) ?_
    obtain ⟨n0, f0, hM0, hb0, hi0, hw⟩ := hw
    refine z_iast hC hZ hM0 hb0 hi0 dX0_languageOf_475 (fun H locs hZ => ?_)
    generalize zu M _ _ = M at hw hZ
    refine lv_dup hx hb dX0_languageOf_476 rfl ?_
    refine lv_iconst (v := 1) hx hb dX0_languageOf_477 (by decide) ?_
    refine lv_iconst (v := 0) hx hb dX0_languageOf_478 (by decide) ?_
    obtain ⟨n0, f0, hM0, hb0, hi0, hw⟩ := hw
    refine z_iast hC hZ hM0 hb0 hi0 dX0_languageOf_479 (fun H locs hZ => ?_)
    generalize zu M _ _ = M at hw hZ
    refine lv_dup hx hb dX0_languageOf_480 rfl ?_
    refine lv_iconst (v := 2) hx hb dX0_languageOf_481 (by decide) ?_
    refine lv_iconst (v := 1) hx hb dX0_languageOf_482 (by decide) ?_
    obtain ⟨n0, f0, hM0, hb0, hi0, hw⟩ := hw
    refine z_iast hC hZ hM0 hb0 hi0 dX0_languageOf_483 (fun H locs hZ => ?_)
    generalize zu M _ _ = M at hw hZ
    refine lv_dup hx hb dX0_languageOf_484 rfl ?_
    refine lv_iconst (v := 3) hx hb dX0_languageOf_485 (by decide) ?_
    refine lv_iconst (v := 0) hx hb dX0_languageOf_486 (by decide) ?_
    obtain ⟨n0, f0, hM0, hb0, hi0, hw⟩ := hw
    refine z_iast hC hZ hM0 hb0 hi0 dX0_languageOf_487 (fun H locs hZ => ?_)
    generalize zu M _ _ = M at hw hZ
    refine lv_dup hx hb dX0_languageOf_488 rfl ?_
    refine lv_iconst (v := 4) hx hb dX0_languageOf_489 (by decide) ?_
    refine lv_iconst (v := 0) hx hb dX0_languageOf_490 (by decide) ?_
    obtain ⟨n0, f0, hM0, hb0, hi0, hw⟩ := hw
    refine z_iast hC hZ hM0 hb0 hi0 dX0_languageOf_491 (fun H locs hZ => ?_)
    generalize zu M _ _ = M at hw hZ
    refine lv_dup hx hb dX0_languageOf_492 rfl ?_
    refine lv_iconst (v := 5) hx hb dX0_languageOf_493 (by decide) ?_
    refine lv_iconst (v := 0) hx hb dX0_languageOf_494 (by decide) ?_
    obtain ⟨n0, f0, hM0, hb0, hi0, hw⟩ := hw
    refine z_iast hC hZ hM0 hb0 hi0 dX0_languageOf_495 (fun H locs hZ => ?_)
    generalize zu M _ _ = M at hw hZ
    obtain ⟨⟨ci0, fs0, hci0, hM0⟩, hw⟩ := hw
    obtain ⟨k168, n169, hk1, hn1, hw⟩ := hw
    obtain ⟨C0, T0, N0, ty0, hc0, hsel0⟩ : ∃ (C0 : String) (T0 : u_T) (N0 : Nat) (ty0 : Nat → FieldType), zCls ci0 C0 T0 N0 ty0 ∧ Cond.selects C0 ⟨"PluralBranches$Everywhere", "with", "(Z[I)LPluralBranches$Language;"⟩ yX2_with ∈ lw_all := (zal ⟨_, _, _, _, zc4, q362⟩ (za0) : ∀ ci ∈ [4], ∃ (C0 : String) (T0 : u_T) (N0 : Nat) (ty0 : Nat → FieldType), zCls ci C0 T0 N0 ty0 ∧ Cond.selects C0 ⟨"PluralBranches$Everywhere", "with", "(Z[I)LPluralBranches$Language;"⟩ yX2_with ∈ lw_all) ci0 hci0
    refine z_callR hZ (vx_runU (As := [.int (0 : Int32), .ref b166]) (rest := []) hC.fix (w_X2_with hlt hw) (va_cwU (owner := "PluralBranches$Language") (x := ⟨"PluralBranches$Everywhere", "with", "(Z[I)LPluralBranches$Language;"⟩) 2 hts (lw_app (zal q360 (zal q361 (zal hsel0 (zal q304 (zal q70 za0))))) (lw_meth q305)) rfl rfl rfl rfl (by decide +kernel) ⟨Nat.le_of_ble_eq_true rfl, Nat.le_of_ble_eq_true rfl⟩) (z_preV hC hZ hM0 hc0) rfl rfl hl.1 rfl (lv_room (Nat.zero_le _)) dX0_languageOf_496 ⟨(show cells + k168 ≤ k by omega), (show slots + n169 ≤ n by omega)⟩) (fun r167 M H locs hw1 hZ => ?_) (fun q M H locs ci fs E T9 N9 hw hZ hc1 hM1 hb1 => False.elim hw)
    replace hw := hw1
    clear hw1
    have hk : cells + k168 + ((((k - 1) - k164) - 1) - k168) ≤ k := by omega
    have hn : slots + n169 + ((((n - 2) - n165) - (6 : Int32).toNatClampNeg) - n169) ≤ n := by omega
    generalize cells + k168 = cells at hk ⊢
    generalize slots + n169 = slots at hn ⊢
    clear hk1 hn1
    exact z_aret (r := r167) hG (Or.inl ⟨_, rfl⟩) hZ (by omega) (by omega) hw dX0_languageOf_499
  by_cases e182 : a0 = 5
  · replace hw := hw.2.2.2.2.1 e182
    refine lv_tableIn (tgt := 500) (off := 499) hx hb dX0_languageOf_1 (by rw [e182]; decide) (by rw [e182]; decide) (by rw [e182]; decide) (by decide) ?_
    obtain ⟨hk1, hn1, hw⟩ := hw
    refine z_new (fs := [.null, .null]) hC hZ zc5 q363 q364 q80 (zdefs (N := 2) (ty := tyX6) (fs := [.null, .null]) (by decide)) (show cells + 1 ≤ k by omega) (show slots + 2 ≤ n by omega) dX0_languageOf_500 (fun b170 H hq0 hq1 hZ => ?_)
    replace hw := hw b170 hq0 hq1
    generalize zu M _ _ = M at hw hZ
    have hk : cells + 1 + (k - 1) ≤ k := by omega
    have hn : slots + 2 + (n - 2) ≤ n := by omega
    generalize cells + 1 = cells at hk ⊢
    generalize slots + 2 = slots at hn ⊢
    clear hk1 hn1
    refine lv_dup hx hb dX0_languageOf_503 rfl ?_
    obtain ⟨k172, n173, hk1, hn1, hw⟩ := hw
    refine z_callU hZ (vx_runIN (As := []) (rest := [.ref b170]) hC.fix (w_X6_init hlt hw) ⟨va_cnB 0 hts (lw_meth q367) rfl rfl rfl (hC.nw q365 rfl) (hts _ q80) dd_X6_init ⟨Nat.le_of_ble_eq_true rfl, Nat.le_of_ble_eq_true rfl⟩, rfl, hts _ q366⟩ (z_preS hC hZ) rfl rfl hl.1 rfl (lv_room (Nat.le_trans (zrm1 rfl zrm0) (Nat.le_of_ble_eq_true rfl))) dX0_languageOf_504 ⟨(show cells + k172 ≤ k by omega), (show slots + n173 ≤ n by omega)⟩) (fun r171 M H locs hw1 hZ => ?_) (fun q M H locs ci fs E T9 N9 hw hZ hc1 hM1 hb1 => False.elim hw)
    replace hw := hw1
    clear hw1
    have hk : cells + k172 + ((k - 1) - k172) ≤ k := by omega
    have hn : slots + n173 + ((n - 2) - n173) ≤ n := by omega
    generalize cells + k172 = cells at hk ⊢
    generalize slots + n173 = slots at hn ⊢
    clear hk1 hn1
    exact z_aret (r := (some b170)) hG (Or.inl ⟨_, rfl⟩) hZ (by omega) (by omega) hw dX0_languageOf_507
  replace hw := hw.2.2.2.2.2 ⟨e178, e179, e180, e181, e182⟩
  refine z_tableK (tgt := 508) (S := [1, 2, 3, 4, 5]) hx hb dX0_languageOf_1 (by decide) (by decide) (by decide) (zal (lv_neT e178 (by decide)) (zal (lv_neT e179 (by decide)) (zal (lv_neT e180 (by decide)) (zal (lv_neT e181 (by decide)) (zal (lv_neT e182 (by decide)) (za0)))))) ?_
  obtain ⟨hk1, hn1, hw⟩ := hw
  refine z_new (fs := [.null, .null]) hC hZ zc6 q372 q373 q81 (zdefs (N := 2) (ty := tyX7) (fs := [.null, .null]) (by decide)) (show cells + 1 ≤ k by omega) (show slots + 2 ≤ n by omega) dX0_languageOf_508 (fun b174 H hq0 hq1 hZ => ?_)
  replace hw := hw b174 hq0 hq1
  generalize zu M _ _ = M at hw hZ
  have hk : cells + 1 + (k - 1) ≤ k := by omega
  have hn : slots + 2 + (n - 2) ≤ n := by omega
  generalize cells + 1 = cells at hk ⊢
  generalize slots + 2 = slots at hn ⊢
  clear hk1 hn1
  refine lv_dup hx hb dX0_languageOf_511 rfl ?_
  obtain ⟨k176, n177, hk1, hn1, hw⟩ := hw
  refine z_callU hZ (vx_runIN (As := []) (rest := [.ref b174]) hC.fix (w_X7_init hlt hw) ⟨va_cnB 0 hts (lw_meth q376) rfl rfl rfl (hC.nw q374 rfl) (hts _ q81) dd_X7_init ⟨Nat.le_of_ble_eq_true rfl, Nat.le_of_ble_eq_true rfl⟩, rfl, hts _ q375⟩ (z_preS hC hZ) rfl rfl hl.1 rfl (lv_room (Nat.le_trans (zrm1 rfl zrm0) (Nat.le_of_ble_eq_true rfl))) dX0_languageOf_512 ⟨(show cells + k176 ≤ k by omega), (show slots + n177 ≤ n by omega)⟩) (fun r175 M H locs hw1 hZ => ?_) (fun q M H locs ci fs E T9 N9 hw hZ hc1 hM1 hb1 => False.elim hw)
  replace hw := hw1
  clear hw1
  have hk : cells + k176 + ((k - 1) - k176) ≤ k := by omega
  have hn : slots + n177 + ((n - 2) - n177) ≤ n := by omega
  generalize cells + k176 = cells at hk ⊢
  generalize slots + n177 = slots at hn ⊢
  clear hk1 hn1
  exact z_aret (r := (some b174)) hG (Or.inl ⟨_, rfl⟩) hZ (by omega) (by omega) hw dX0_languageOf_515
