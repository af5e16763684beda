set_option maxRecDepth 100000
theorem dd_J11_charAt : yJ11_charAt.cls ≠ "java/lang/invoke/MethodHandle" ∧ yJ11_charAt.cls ≠ "java/lang/invoke/VarHandle" ∧ (parseMethodDescriptor yJ11_charAt.desc).map (fun d => d.parameters.length) = some 1 := by decide +kernel
theorem dd_X12_write : yX12_write.cls ≠ "java/lang/invoke/MethodHandle" ∧ yX12_write.cls ≠ "java/lang/invoke/VarHandle" ∧ (parseMethodDescriptor yX12_write.desc).map (fun d => d.parameters.length) = some 1 := by decide +kernel
theorem dd_X28_checks : yX28_checks.cls ≠ "java/lang/invoke/MethodHandle" ∧ yX28_checks.cls ≠ "java/lang/invoke/VarHandle" ∧ (parseMethodDescriptor yX28_checks.desc).map (fun d => d.parameters.length) = some 0 := by decide +kernel
theorem dd_X28_plainly : yX28_plainly.cls ≠ "java/lang/invoke/MethodHandle" ∧ yX28_plainly.cls ≠ "java/lang/invoke/VarHandle" ∧ (parseMethodDescriptor yX28_plainly.desc).map (fun d => d.parameters.length) = some 1 := by decide +kernel
theorem dd_X28_puts : yX28_puts.cls ≠ "java/lang/invoke/MethodHandle" ∧ yX28_puts.cls ≠ "java/lang/invoke/VarHandle" ∧ (parseMethodDescriptor yX28_puts.desc).map (fun d => d.parameters.length) = some 1 := by decide +kernel
abbrev rm_X28_plainly : Room := { frames := 3, cells := 0, slots := 0, locals := 112 }
def wp_X28_plainly_L52 (D : zD) (post : Unit → zM → Prop) (o : Nat) (M : zM) : Prop :=
    post () M
set_option maxHeartbeats 4000000 in
set_option maxRecDepth 100000 in
theorem wk_X28_plainly_L52 {p : Program} {l : Launch} {e : Env} {s : State} {m : MethodId} {args : Array Value} {below : List Frame} {meth : Method} {c : Code} {D : zD} {post : Unit → zM → Prop} {o : Nat} (hG : zGx p l s m args meth c cX28_plainly 2 "PluralBranches$Sheet" D (none) "plainly" []) : ∀ {H : Heap} {locs : List Loc} {cells slots : Nat} {ls : Array Slot} (M : zM), cells ≤ 0 → slots ≤ 0 → zS D M H locs → lv_has ls 2 [] → wp_X28_plainly_L52 D post o M → W p l e rm_X28_plainly s m args below meth c H locs cells slots (vx_MQ below (zQ D zU post) (zX D (fun _ _ => False)) args s 0 0 (zA D)) (F0 m 52 ls []) := by
  have hC := hG.1
  have hx := hC.x
  have hb := hC.b
  have hown := hC.o
  have hts := hC.ts
  have hlt := hG.2.2.2.2.2
  intro H locs cells slots ls M hk hn hZ hl hw
  exact z_vret hG hZ hk hn hw dX28_plainly_52
def wp_X28_plainly_L37 (D : zD) (post : Unit → zM → Prop) (o : Nat) (x1 : Option Nat) (y0 : Option Nat) (y1 : Int32) (M : zM) : Prop :=
    ((zd y0 fun b1 => (zis M b1 [25] ∧ wp_X28_put D (fun _ M => ((zd x1 fun b5 => zgL M b5 1 3 fun g6 => (zgI M b5 1 1 fun g7 => ((zis M o [25] ∧ wp_X28_number D (fun _ M => wp_X28_plainly_L52 D post o M) o g6 g7 M)))))) b1 y1 M)))
set_option maxHeartbeats 4000000 in
set_option maxRecDepth 100000 in
theorem wk_X28_plainly_L37 {p : Program} {l : Launch} {e : Env} {s : State} {m : MethodId} {args : Array Value} {below : List Frame} {meth : Method} {c : Code} {D : zD} {post : Unit → zM → Prop} {o : Nat} (hG : zGx p l s m args meth c cX28_plainly 2 "PluralBranches$Sheet" D (none) "plainly" []) : ∀ {H : Heap} {locs : List Loc} {cells slots : Nat} {ls : Array Slot} (x1 : Option Nat) (y0 : Option Nat) (y1 : Int32) (M : zM), cells ≤ 0 → slots ≤ 0 → zS D M H locs → lv_has ls 2 [(0, .ref o), (1, va_rf x1)] → wp_X28_plainly_L37 D post o x1 y0 y1 M → W p l e rm_X28_plainly s m args below meth c H locs cells slots (vx_MQ below (zQ D zU post) (zX D (fun _ _ => False)) args s 0 0 (zA D)) (F0 m 37 ls [.int y1, va_rf y0]) := by
  have hC := hG.1
  have hx := hC.x
  have hb := hC.b
  have hown := hC.o
  have hts := hC.ts
  have hlt := hG.2.2.2.2.2
  intro H locs cells slots ls x1 y0 y1 M hk hn hZ hl hw
  obtain ⟨b11, hr0, hw⟩ := hw
  subst hr0
  obtain ⟨⟨ci0, fs0, hci0, hM0⟩, hw⟩ := hw
  obtain rfl : ci0 = 25 := List.mem_singleton.mp hci0
  refine z_callU hZ (vx_runV (As := [.int y1]) (rest := []) hC.fix (w_X28_put hlt hw) (cwV 1 hts (lw_V q1430 q1431 q1432 q113 q1433) rfl rfl rfl ⟨rfl, dd_X28_put⟩ ⟨Nat.le_of_ble_eq_true rfl, Nat.le_of_ble_eq_true rfl⟩) (z_preV hC hZ hM0 zc25) rfl rfl hl.1 rfl (lv_room (Nat.zero_le _)) dX28_plainly_37 ⟨hk, hn⟩) (fun r12 M H locs hw1 hZ => ?_) (fun q M H locs ci fs E T9 N9 hw hZ hc1 hM1 hb1 => False.elim hw)
  replace hw := hw1
  clear hw1
  refine W.cs (cells' := cells) (slots' := slots) rfl rfl ?_
  refine lv_aload_n hx hb dX28_plainly_40 rfl (lv_at hl 0 rfl) ?_
  refine z_aload_n hC dX28_plainly_41 rfl (lv_at hl 1 rfl) ?_
  obtain ⟨b15, hr0, hw⟩ := hw
  subst hr0
  obtain ⟨fs0, g16, hM0, hx0, hw⟩ := hw
  refine z_getN hC hZ hM0 zc1 3 (by decide) q160 (fun _ h9 => h9) hx0 dX28_plainly_42 ?_
  refine lv_aload_n hx hb dX28_plainly_45 rfl (lv_at hl 1 rfl) ?_
  obtain ⟨fs0, g17, hM0, hx0, hw⟩ := hw
  refine z_getN hC hZ hM0 zc1 1 (by decide) q154 (fun _ h9 => h9) hx0 dX28_plainly_46 ?_
  obtain ⟨⟨ci0, fs0, hci0, hM0⟩, hw⟩ := hw
  obtain rfl : ci0 = 25 := List.mem_singleton.mp hci0
  refine z_callU hZ (vx_runV (As := [.long g16, .int g17]) (rest := []) hC.fix (w_X28_number hlt hw) (cwV 2 hts (lw_V q1434 q1435 q1436 q113 q1437) rfl rfl rfl ⟨rfl, dd_X28_number⟩ ⟨Nat.le_of_ble_eq_true rfl, Nat.le_of_ble_eq_true rfl⟩) (z_preV hC hZ hM0 zc25) rfl rfl hl.1 rfl (lv_room (Nat.zero_le _)) dX28_plainly_49 ⟨hk, hn⟩) (fun r18 M H locs hw1 hZ => ?_) (fun q M H locs ci fs E T9 N9 hw hZ hc1 hM1 hb1 => False.elim hw)
  replace hw := hw1
  clear hw1
  refine W.cs (cells' := cells) (slots' := slots) rfl rfl ?_
  exact wk_X28_plainly_L52 hG _ hk hn hZ (lv_sub hl [] rfl) hw
def wp_X28_plainly_L13 (D : zD) (post : Unit → zM → Prop) (o : Nat) (x1 : Option Nat) (M : zM) : Prop :=
    ((zd x1 fun b21 => zgL M b21 1 2 fun g22 => ((zis M o [25] ∧ wp_X28_number D (fun _ M => (zgI M b21 1 1 fun g26 => ((g26 ≤ 0 → wp_X28_plainly_L52 D post o M) ∧ (¬ g26 ≤ 0 → (zgR M o 25 2 fun g27 => ((zd g27 fun b28 => ((zis M b28 [2, 4] ∧ wp_X2_point D (fun r29 M => wp_X28_plainly_L37 D post o (some b21) (some o) r29 M) b28 M) ∨ (zis M b28 [5] ∧ wp_X6_point D (fun r32 M => wp_X28_plainly_L37 D post o (some b21) (some o) r32 M) b28 M) ∨ (zis M b28 [6] ∧ wp_X7_point D (fun r35 M => wp_X28_plainly_L37 D post o (some b21) (some o) r35 M) b28 M))))))))) o g22 (1 : Int32) M))))
set_option maxHeartbeats 4000000 in
set_option maxRecDepth 100000 in
theorem wk_X28_plainly_L13 {p : Program} {l : Launch} {e : Env} {s : State} {m : MethodId} {args : Array Value} {below : List Frame} {meth : Method} {c : Code} {D : zD} {post : Unit → zM → Prop} {o : Nat} (hG : zGx p l s m args meth c cX28_plainly 2 "PluralBranches$Sheet" D (none) "plainly" []) : ∀ {H : Heap} {locs : List Loc} {cells slots : Nat} {ls : Array Slot} (x1 : Option Nat) (M : zM), cells ≤ 0 → slots ≤ 0 → zS D M H locs → lv_has ls 2 [(0, .ref o), (1, va_rf x1)] → wp_X28_plainly_L13 D post o x1 M → W p l e rm_X28_plainly s m args below meth c H locs cells slots (vx_MQ below (zQ D zU post) (zX D (fun _ _ => False)) args s 0 0 (zA D)) (F0 m 13 ls []) := by
  have hC := hG.1
  have hx := hC.x
  have hb := hC.b
  have hown := hC.o
  have hts := hC.ts
  have hlt := hG.2.2.2.2.2
  intro H locs cells slots ls x1 M hk hn hZ hl hw
  refine lv_aload_n hx hb dX28_plainly_13 rfl (lv_at hl 0 rfl) ?_
  refine z_aload_n hC dX28_plainly_14 rfl (lv_at hl 1 rfl) ?_
  obtain ⟨b39, hr0, hw⟩ := hw
  subst hr0
  obtain ⟨fs0, g40, hM0, hx0, hw⟩ := hw
  refine z_getN hC hZ hM0 zc1 2 (by decide) q158 (fun _ h9 => h9) hx0 dX28_plainly_15 ?_
  refine lv_iconst (v := 1) hx hb dX28_plainly_18 (by decide) ?_
  obtain ⟨⟨ci0, fs0, hci0, hM0⟩, hw⟩ := hw
  obtain rfl : ci0 = 25 := List.mem_singleton.mp hci0
  refine z_callU hZ (vx_runV (As := [.long g40, .int (1 : Int32)]) (rest := []) hC.fix (w_X28_number hlt hw) (cwV 2 hts (lw_V q1434 q1435 q1436 q113 q1437) rfl rfl rfl ⟨rfl, dd_X28_number⟩ ⟨Nat.le_of_ble_eq_true rfl, Nat.le_of_ble_eq_true rfl⟩) (z_preV hC hZ hM0 zc25) rfl rfl hl.1 rfl (lv_room (Nat.zero_le _)) dX28_plainly_19 ⟨hk, hn⟩) (fun r41 M H locs hw1 hZ => ?_) (fun q M H locs ci fs E T9 N9 hw hZ hc1 hM1 hb1 => False.elim hw)
  replace hw := hw1
  clear hw1
  refine W.cs (cells' := cells) (slots' := slots) rfl rfl ?_
  refine lv_aload_n hx hb dX28_plainly_22 rfl (lv_at hl 1 rfl) ?_
  obtain ⟨fs0, g44, hM0, hx0, hw⟩ := hw
  refine z_getN hC hZ hM0 zc1 1 (by decide) q154 (fun _ h9 => h9) hx0 dX28_plainly_23 ?_
  refine lv_if_le (tgt := 52) hx hb dX28_plainly_26 (by decide) (fun c56 => ?_) (fun c56 => ?_)
  · replace hw := hw.1 c56
    exact wk_X28_plainly_L52 hG _ hk hn hZ (lv_sub hl [] rfl) hw
  · replace hw := hw.2 c56
    refine lv_aload_n hx hb dX28_plainly_29 rfl (lv_at hl 0 rfl) ?_
    refine lv_aload_n hx hb dX28_plainly_30 rfl (lv_at hl 0 rfl) ?_
    obtain ⟨fs0, g45, hM0, hx0, hw⟩ := hw
    refine z_get hC hZ hM0 zc25 2 (by decide) q1375 (fun _ h9 => h9) hx0 dX28_plainly_31 ?_
    obtain ⟨b46, hr0, hw⟩ := hw
    subst hr0
    rcases hw with hw | hw | hw
    · obtain ⟨⟨ci0, fs0, hci0, hM0⟩, hw⟩ := hw
      obtain ⟨C0, T0, N0, ty0, hc0, hsel0⟩ : ∃ (C0 : String) (T0 : u_T) (N0 : Nat) (ty0 : Nat → FieldType), zCls ci0 C0 T0 N0 ty0 ∧ Cond.selects C0 ⟨"PluralBranches$Language", "point", "()I"⟩ yX2_point ∈ lw_all := (zal ⟨_, _, _, _, zc2, q1448⟩ (zal ⟨_, _, _, _, zc4, q1447⟩ (za0)) : ∀ ci ∈ [2, 4], ∃ (C0 : String) (T0 : u_T) (N0 : Nat) (ty0 : Nat → FieldType), zCls ci C0 T0 N0 ty0 ∧ Cond.selects C0 ⟨"PluralBranches$Language", "point", "()I"⟩ yX2_point ∈ lw_all) ci0 hci0
      refine z_callI hZ (vx_runU (As := []) (rest := [.ref o]) hC.fix (w_X2_point hlt hw) (va_cwU (owner := "PluralBranches$Language") (x := ⟨"PluralBranches$Language", "point", "()I"⟩) 0 hts (lw_app (zal q1441 (zal q1443 (zal hsel0 (zal q1442 (zal q70 za0))))) (lw_meth q1452)) rfl rfl rfl rfl (by decide +kernel) ⟨Nat.le_of_ble_eq_true rfl, Nat.le_of_ble_eq_true rfl⟩) (z_preV hC hZ hM0 hc0) rfl rfl hl.1 rfl (lv_room (Nat.le_trans (zrm1 rfl zrm0) (Nat.le_of_ble_eq_true rfl))) dX28_plainly_34 ⟨hk, hn⟩) (fun r47 M H locs hw1 hZ => ?_) (fun q M H locs ci fs E T9 N9 hw hZ hc1 hM1 hb1 => False.elim hw)
      replace hw := hw1
      clear hw1
      refine W.cs (cells' := cells) (slots' := slots) rfl rfl ?_
      exact wk_X28_plainly_L37 hG _ _ _ _ hk hn hZ (lv_sub hl [0, 1] rfl) hw
    · obtain ⟨⟨ci0, fs0, hci0, hM0⟩, hw⟩ := hw
      obtain ⟨C0, T0, N0, ty0, hc0, hsel0⟩ : ∃ (C0 : String) (T0 : u_T) (N0 : Nat) (ty0 : Nat → FieldType), zCls ci0 C0 T0 N0 ty0 ∧ Cond.selects C0 ⟨"PluralBranches$Language", "point", "()I"⟩ yX6_point ∈ lw_all := (zal ⟨_, _, _, _, zc5, q1444⟩ (za0) : ∀ ci ∈ [5], ∃ (C0 : String) (T0 : u_T) (N0 : Nat) (ty0 : Nat → FieldType), zCls ci C0 T0 N0 ty0 ∧ Cond.selects C0 ⟨"PluralBranches$Language", "point", "()I"⟩ yX6_point ∈ lw_all) ci0 hci0
      refine z_callI hZ (vx_runU (As := []) (rest := [.ref o]) hC.fix (w_X6_point hlt hw) (va_cwO (owner := "PluralBranches$Language") (x := ⟨"PluralBranches$Language", "point", "()I"⟩) 0 hts (lw_app (zal q1441 (zal q1443 (zal q1442 (zal hsel0 (zal q1445 (zal q80 za0)))))) (lw_meth q1446)) rfl rfl rfl q1452 (by decide +kernel) ⟨Nat.le_of_ble_eq_true rfl, Nat.le_of_ble_eq_true rfl⟩) (z_preV hC hZ hM0 hc0) rfl rfl hl.1 rfl (lv_room (Nat.le_trans (zrm1 rfl zrm0) (Nat.le_of_ble_eq_true rfl))) dX28_plainly_34 ⟨hk, hn⟩) (fun r50 M H locs hw1 hZ => ?_) (fun q M H locs ci fs E T9 N9 hw hZ hc1 hM1 hb1 => False.elim hw)
      replace hw := hw1
      clear hw1
      refine W.cs (cells' := cells) (slots' := slots) rfl rfl ?_
      exact wk_X28_plainly_L37 hG _ _ _ _ hk hn hZ (lv_sub hl [0, 1] rfl) hw
    · obtain ⟨⟨ci0, fs0, hci0, hM0⟩, hw⟩ := hw
      obtain ⟨C0, T0, N0, ty0, hc0, hsel0⟩ : ∃ (C0 : String) (T0 : u_T) (N0 : Nat) (ty0 : Nat → FieldType), zCls ci0 C0 T0 N0 ty0 ∧ Cond.selects C0 ⟨"PluralBranches$Language", "point", "()I"⟩ yX7_point ∈ lw_all := (zal ⟨_, _, _, _, zc6, q1449⟩ (za0) : ∀ ci ∈ [6], ∃ (C0 : String) (T0 : u_T) (N0 : Nat) (ty0 : Nat → FieldType), zCls ci C0 T0 N0 ty0 ∧ Cond.selects C0 ⟨"PluralBranches$Language", "point", "()I"⟩ yX7_point ∈ lw_all) ci0 hci0
      refine z_callI hZ (vx_runU (As := []) (rest := [.ref o]) hC.fix (w_X7_point hlt hw) (va_cwO (owner := "PluralBranches$Language") (x := ⟨"PluralBranches$Language", "point", "()I"⟩) 0 hts (lw_app (zal q1441 (zal q1443 (zal q1442 (zal hsel0 (zal q1450 (zal q81 za0)))))) (lw_meth q1451)) rfl rfl rfl q1452 (by decide +kernel) ⟨Nat.le_of_ble_eq_true rfl, Nat.le_of_ble_eq_true rfl⟩) (z_preV hC hZ hM0 hc0) rfl rfl hl.1 rfl (lv_room (Nat.le_trans (zrm1 rfl zrm0) (Nat.le_of_ble_eq_true rfl))) dX28_plainly_34 ⟨hk, hn⟩) (fun r53 M H locs hw1 hZ => ?_) (fun q M H locs ci fs E T9 N9 hw hZ hc1 hM1 hb1 => False.elim hw)
      replace hw := hw1
      clear hw1
      refine W.cs (cells' := cells) (slots' := slots) rfl rfl ?_
      exact wk_X28_plainly_L37 hG _ _ _ _ hk hn hZ (lv_sub hl [0, 1] rfl) hw
def wp_X28_plainly (D : zD) (post : Unit → zM → Prop) (o : Nat) (a0 : Option Nat) (M : zM) : Prop :=
    ((zd a0 fun b57 => zgI M b57 1 0 fun g58 => ((0 ≤ g58 → wp_X28_plainly_L13 D post o (some b57) M) ∧ (¬ 0 ≤ g58 → ((zis M o [25] ∧ wp_X28_put D (fun _ M => wp_X28_plainly_L13 D post o (some b57) M) o (45 : Int32) M))))))
set_option maxHeartbeats 4000000 in
set_option maxRecDepth 100000 in
theorem w_X28_plainly {l : Launch} {D : zD} {post : Unit → zM → Prop} (hlt : l.stackTraces = false) {o : Nat} {a0 : Option Nat} {M : zM} (hw : wp_X28_plainly D post o a0 M) : zMet l D yX28_plainly (ws_ yX28_plainly cX28_plainly 2 (none)) rm_X28_plainly 0 0 [.ref o, va_rf a0] M zU post (fun _ _ => False) := by
  unfold wp_X28_plainly at hw
  have hlv : lv_args 0 [.ref o, va_rf a0] = [(0, .ref o), (1, va_rf a0)] := (zargs1 rfl (zargs1 (zcat _) rfl))
  refine z_ofW hlt (by decide) (Nat.le_trans (zsl1 rfl (zsl1 (zcat _) (Nat.le_refl 0 : (lg_sl []).length ≤ 0))) (Nat.le_of_ble_eq_true rfl)) hlv ?_
  intro p e s m args below meth c ls hG hZ hl
  have hC := hG.1
  have hx := hC.x
  have hb := hC.b
  have hown := hC.o
  have hts := hC.ts
  have hlt := hG.2.2.2.2.2
  obtain ⟨cells, hce⟩ : ∃ z : Nat, z = 0 := ⟨0, rfl⟩
  obtain ⟨slots, hsl⟩ : ∃ z : Nat, z = 0 := ⟨0, rfl⟩
  refine W.cs (cells' := cells) (slots' := slots) hce.symm hsl.symm ?_
  have hk : cells ≤ 0 := Nat.le_of_eq hce
  have hn : slots ≤ 0 := Nat.le_of_eq hsl
  clear hce hsl
  refine z_aload_n hC dX28_plainly_0 rfl (lv_at hl 1 rfl) ?_
  obtain ⟨b63, hr0, hw⟩ := hw
  subst hr0
  obtain ⟨fs0, g64, hM0, hx0, hw⟩ := hw
  refine z_getN hC hZ hM0 zc1 0 (by decide) q150 (fun _ h9 => h9) hx0 dX28_plainly_1 ?_
  refine lv_if_ge (tgt := 13) hx hb dX28_plainly_4 (by decide) (fun c68 => ?_) (fun c68 => ?_)
  · replace hw := hw.1 c68
    exact wk_X28_plainly_L13 hG _ _ hk hn hZ (lv_sub hl [0, 1] rfl) hw
  · replace hw := hw.2 c68
    refine lv_aload_n hx hb dX28_plainly_7 rfl (lv_at hl 0 rfl) ?_
    refine lv_bipush (v := 45) hx hb dX28_plainly_8 (by decide) ?_
    obtain ⟨⟨ci0, fs0, hci0, hM0⟩, hw⟩ := hw
    obtain rfl : ci0 = 25 := List.mem_singleton.mp hci0
    refine z_callU hZ (vx_runV (As := [.int (45 : Int32)]) (rest := []) hC.fix (w_X28_put hlt hw) (cwV 1 hts (lw_V q1430 q1431 q1432 q113 q1433) rfl rfl rfl ⟨rfl, dd_X28_put⟩ ⟨Nat.le_of_ble_eq_true rfl, Nat.le_of_ble_eq_true rfl⟩) (z_preV hC hZ hM0 zc25) rfl rfl hl.1 rfl (lv_room (Nat.zero_le _)) dX28_plainly_10 ⟨hk, hn⟩) (fun r65 M H locs hw1 hZ => ?_) (fun q M H locs ci fs E T9 N9 hw hZ hc1 hM1 hb1 => False.elim hw)
    replace hw := hw1
    clear hw1
    refine W.cs (cells' := cells) (slots' := slots) rfl rfl ?_
    exact wk_X28_plainly_L13 hG _ _ hk hn hZ (lv_sub hl [0, 1] rfl) hw
abbrev rm_X14_write : Room := { frames := 4, cells := 0, slots := 0, locals := 133 }
def wp_X14_write (D : zD) (post : Unit → zM → Prop) (o : Nat) (a0 : Option Nat) (M : zM) : Prop :=
    ((zd a0 fun b1 => zgR M b1 25 4 fun g2 => ((zis M b1 [25] ∧ wp_X28_plainly D (fun _ M => post () M) b1 g2 M))))
set_option maxHeartbeats 4000000 in
set_option maxRecDepth 100000 in
theorem w_X14_write {l : Launch} {D : zD} {post : Unit → zM → Prop} (hlt : l.stackTraces = false) {o : Nat} {a0 : Option Nat} {M : zM} (hw : wp_X14_write D post o a0 M) : zMet l D yX14_write (ws_ yX14_write cX14_write 2 (none)) rm_X14_write 0 0 [.ref o, va_rf a0] M zU post (fun _ _ => False) := by
  unfold wp_X14_write at hw
  have hlv : lv_args 0 [.ref o, va_rf a0] = [(0, .ref o), (1, va_rf a0)] := (zargs1 rfl (zargs1 (zcat _) rfl))
  refine z_ofW hlt (by decide) (Nat.le_trans (zsl1 rfl (zsl1 (zcat _) (Nat.le_refl 0 : (lg_sl []).length ≤ 0))) (Nat.le_of_ble_eq_true rfl)) hlv ?_
  intro p e s m args below meth c ls hG hZ hl
  have hC := hG.1
  have hx := hC.x
  have hb := hC.b
  have hown := hC.o
  have hts := hC.ts
  have hlt := hG.2.2.2.2.2
  obtain ⟨cells, hce⟩ : ∃ z : Nat, z = 0 := ⟨0, rfl⟩
  obtain ⟨slots, hsl⟩ : ∃ z : Nat, z = 0 := ⟨0, rfl⟩
  refine W.cs (cells' := cells) (slots' := slots) hce.symm hsl.symm ?_
  have hk : cells ≤ 0 := Nat.le_of_eq hce
  have hn : slots ≤ 0 := Nat.le_of_eq hsl
  clear hce hsl
  refine z_aload_n hC dX14_write_0 rfl (lv_at hl 1 rfl) ?_
  refine z_aload_n hC dX14_write_1 rfl (lv_at hl 1 rfl) ?_
  obtain ⟨b6, hr0, hw⟩ := hw
  subst hr0
  obtain ⟨fs0, g7, hM0, hx0, hw⟩ := hw
  refine z_getN hC hZ hM0 zc25 4 (by decide) q1381 (fun _ h9 => h9) hx0 dX14_write_2 ?_
  obtain ⟨⟨ci0, fs0, hci0, hM0⟩, hw⟩ := hw
  obtain rfl : ci0 = 25 := List.mem_singleton.mp hci0
  refine z_callU hZ (vx_runV (As := [va_rf g7]) (rest := []) hC.fix (w_X28_plainly hlt hw) (cwV 1 hts (lw_V q1426 q1427 q1428 q113 q1429) rfl rfl rfl ⟨rfl, dd_X28_plainly⟩ ⟨Nat.le_of_ble_eq_true rfl, Nat.le_of_ble_eq_true rfl⟩) (z_preV hC hZ hM0 zc25) rfl rfl hl.1 rfl (lv_room (Nat.zero_le _)) dX14_write_5 ⟨hk, hn⟩) (fun r8 M H locs hw1 hZ => ?_) (fun q M H locs ci fs E T9 N9 hw hZ hc1 hM1 hb1 => False.elim hw)
  replace hw := hw1
  clear hw1
  refine W.cs (cells' := cells) (slots' := slots) rfl rfl ?_
  exact z_vret hG hZ hk hn hw dX14_write_8
abbrev rm_X16_thing (K N : Nat) : Room := { frames := 6, cells := K, slots := N, locals := 178 }
def wp_X16_thing_L17 (D : zD) (post : Option Nat → zM → Prop) (xp : Nat → zM → Prop) (o : Nat) (k : Nat) (n : Nat) (x1 : Option Nat) (y0 : Int32) (M : zM) : Prop :=
    (zgIm M o [(14, 0), (15, 0), (16, 0), (18, 2), (19, 2)] fun g1 => ((∃ k3 n4, k3 ≤ k ∧ n4 ≤ n ∧ wp_X0_need D (fun _ M => ((zd x1 fun b5 => zgR M b5 25 3 fun g6 => (zgIm M o [(14, 0), (15, 0), (16, 0), (18, 2), (19, 2)] fun g7 => ((zd g6 fun b8 => zaR M b8 9 g7 fun v9 => post v9 M)))))) xp k3 n4 y0 ((-20 : Int32) - g1) M)))
set_option maxHeartbeats 4000000 in
set_option maxRecDepth 100000 in
theorem wk_X16_thing_L17 {p : Program} {l : Launch} {e : Env} {s : State} {m : MethodId} {args : Array Value} {below : List Frame} {meth : Method} {c : Code} {D : zD} {post : Option Nat → zM → Prop} {xp : Nat → zM → Prop} {K N : Nat} {o : Nat} (hG : zGx p l s m args meth c cX16_thing 2 "PluralBranches$Plain" D (some (.object "PluralBranches$Thing")) "thing" []) : ∀ {H : Heap} {locs : List Loc} {cells slots : Nat} {ls : Array Slot} (k : Nat) (n : Nat) (x1 : Option Nat) (y0 : Int32) (M : zM), cells + k ≤ K → slots + n ≤ N → zS D M H locs → lv_has ls 2 [(0, .ref o), (1, va_rf x1)] → wp_X16_thing_L17 D post xp o k n x1 y0 M → W p l e (rm_X16_thing K N) s m args below meth c H locs cells slots (vx_MQ below (zQ D zR post) (zX D xp) args s K N (zA D)) (F0 m 17 ls [.int y0]) := by
  have hC := hG.1
  have hx := hC.x
  have hb := hC.b
  have hown := hC.o
  have hts := hC.ts
  have hlt := hG.2.2.2.2.2
  intro H locs cells slots ls k n x1 y0 M hk hn hZ hl hw
  refine lv_bipush (v := (-20)) hx hb dX16_thing_17 (by decide) ?_
  refine lv_aload_n hx hb dX16_thing_19 rfl (lv_at hl 0 rfl) ?_
  obtain ⟨q0, fs0, g10, hL0, hM0, hx0, hw⟩ := hw
  refine z_getm hC hZ hM0 (L := [(14, 0), (15, 0), (16, 0), (18, 2), (19, 2)]) (ref := "PluralBranches$Plain") (index := 7) (zal (⟨_, _, _, _, zc14, by decide, q733, (fun _ h9 => h9)⟩) (zal (⟨_, _, _, _, zc15, by decide, q733, (fun _ h9 => h9)⟩) (zal (⟨_, _, _, _, zc16, by decide, q733, (fun _ h9 => h9)⟩) (zal (⟨_, _, _, _, zc18, by decide, q733, (fun _ h9 => h9)⟩) (zal (⟨_, _, _, _, zc19, by decide, q733, (fun _ h9 => h9)⟩) (za0)))))) hL0 hx0 dX16_thing_20 ?_
  refine lv_isub hx hb dX16_thing_23 ?_
  obtain ⟨k12, n13, hk1, hn1, hw⟩ := hw
  refine z_callU hZ (vx_runSN (As := [.int y0, .int ((-20 : Int32) - g10)]) (rest := []) hC.fix (w_X0_need hlt hw) ⟨va_cnB 2 hts (lw_meth q1003) rfl rfl rfl (hC.nw q1412 rfl) (hts _ q67) dd_X0_need ⟨Nat.le_of_ble_eq_true rfl, Nat.le_of_ble_eq_true rfl⟩, hts _ q1002, trivial⟩ (z_preS hC hZ) rfl rfl hl.1 rfl (lv_room (Nat.zero_le _)) dX16_thing_24 ⟨(show cells + k12 ≤ K by omega), (show slots + n13 ≤ N by omega)⟩) (fun r11 M H locs hw1 hZ => ?_) (fun q M H locs ci fs E T9 N9 hw1 hZ hc1 hM1 hb1 => ?_)
  · replace hw := hw1
    clear hw1
    have hk : cells + k12 + (k - k12) ≤ K := by omega
    have hn : slots + n13 + (n - n13) ≤ N := by omega
    generalize cells + k12 = cells at hk ⊢
    generalize slots + n13 = slots at hn ⊢
    clear hk1 hn1
    refine z_aload_n hC dX16_thing_27 rfl (lv_at hl 1 rfl) ?_
    obtain ⟨b14, hr0, hw⟩ := hw
    subst hr0
    obtain ⟨fs0, g15, hM0, hx0, hw⟩ := hw
    refine z_getN hC hZ hM0 zc25 3 (by decide) q1380 (fun _ h9 => h9) hx0 dX16_thing_28 ?_
    refine lv_aload_n hx hb dX16_thing_31 rfl (lv_at hl 0 rfl) ?_
    obtain ⟨q0, fs0, g16, hL0, hM0, hx0, hw⟩ := hw
    refine z_getm hC hZ hM0 (L := [(14, 0), (15, 0), (16, 0), (18, 2), (19, 2)]) (ref := "PluralBranches$Plain") (index := 7) (zal (⟨_, _, _, _, zc14, by decide, q733, (fun _ h9 => h9)⟩) (zal (⟨_, _, _, _, zc15, by decide, q733, (fun _ h9 => h9)⟩) (zal (⟨_, _, _, _, zc16, by decide, q733, (fun _ h9 => h9)⟩) (zal (⟨_, _, _, _, zc18, by decide, q733, (fun _ h9 => h9)⟩) (zal (⟨_, _, _, _, zc19, by decide, q733, (fun _ h9 => h9)⟩) (za0)))))) hL0 hx0 dX16_thing_32 ?_
    obtain ⟨b17, hr0, hw⟩ := hw
    subst hr0
    obtain ⟨n0, f0, v18, hM0, hi0, hr0, hw⟩ := hw
    refine z_aald hC hZ hM0 (by decide) rfl hi0 hr0 dX16_thing_35 ?_
    exact z_aret (r := v18) hG (Or.inl ⟨_, rfl⟩) hZ (by omega) (by omega) hw dX16_thing_36
  · replace hw := hw1
    clear hw1
    exact z_out hG hZ hM1 hb1 hc1 za0 (by omega) (by omega) hw
def wp_X16_thing (D : zD) (post : Option Nat → zM → Prop) (xp : Nat → zM → Prop) (k : Nat) (n : Nat) (o : Nat) (a0 : Option Nat) (M : zM) : Prop :=
    ((zd a0 fun b19 => zgR M b19 25 3 fun g20 => (zgIm M o [(14, 0), (15, 0), (16, 0), (18, 2), (19, 2)] fun g21 => ((zd g20 fun b22 => zaR M b22 9 g21 fun v23 => ((v23 = none → wp_X16_thing_L17 D post xp o k n (some b19) (0 : Int32) M) ∧ (∀ b24 : Nat, v23 = some b24 → wp_X16_thing_L17 D post xp o k n (some b19) (1 : Int32) M)))))))
set_option maxHeartbeats 4000000 in
set_option maxRecDepth 100000 in
theorem w_X16_thing {l : Launch} {D : zD} {post : Option Nat → zM → Prop} {xp : Nat → zM → Prop} (hlt : l.stackTraces = false) {k : Nat} {n : Nat} {o : Nat} {a0 : Option Nat} {M : zM} (hw : wp_X16_thing D post xp k n o a0 M) : zMet l D yX16_thing (ws_ yX16_thing cX16_thing 2 (some (.object "PluralBranches$Thing"))) (rm_X16_thing k n) k n [.ref o, va_rf a0] M zR post xp := by
  unfold wp_X16_thing at hw
  have hlv : lv_args 0 [.ref o, va_rf a0] = [(0, .ref o), (1, va_rf a0)] := (zargs1 rfl (zargs1 (zcat _) rfl))
  refine z_ofW hlt (by decide) (Nat.le_trans (zsl1 rfl (zsl1 (zcat _) (Nat.le_refl 0 : (lg_sl []).length ≤ 0))) (Nat.le_of_ble_eq_true rfl)) hlv ?_
  intro p e s m args below meth c ls hG hZ hl
  have hC := hG.1
  have hx := hC.x
  have hb := hC.b
  have hown := hC.o
  have hts := hC.ts
  have hlt := hG.2.2.2.2.2
  obtain ⟨cells, hce⟩ : ∃ z : Nat, z = 0 := ⟨0, rfl⟩
  obtain ⟨slots, hsl⟩ : ∃ z : Nat, z = 0 := ⟨0, rfl⟩
  refine W.cs (cells' := cells) (slots' := slots) hce.symm hsl.symm ?_
  have hk : cells + k ≤ k := by omega
  have hn : slots + n ≤ n := by omega
  clear hce hsl
  refine z_aload_n hC dX16_thing_0 rfl (lv_at hl 1 rfl) ?_
  obtain ⟨b25, hr0, hw⟩ := hw
  subst hr0
  obtain ⟨fs0, g26, hM0, hx0, hw⟩ := hw
  refine z_getN hC hZ hM0 zc25 3 (by decide) q1380 (fun _ h9 => h9) hx0 dX16_thing_1 ?_
  refine lv_aload_n hx hb dX16_thing_4 rfl (lv_at hl 0 rfl) ?_
  obtain ⟨q0, fs0, g27, hL0, hM0, hx0, hw⟩ := hw
  refine z_getm hC hZ hM0 (L := [(14, 0), (15, 0), (16, 0), (18, 2), (19, 2)]) (ref := "PluralBranches$Plain") (index := 7) (zal (⟨_, _, _, _, zc14, by decide, q733, (fun _ h9 => h9)⟩) (zal (⟨_, _, _, _, zc15, by decide, q733, (fun _ h9 => h9)⟩) (zal (⟨_, _, _, _, zc16, by decide, q733, (fun _ h9 => h9)⟩) (zal (⟨_, _, _, _, zc18, by decide, q733, (fun _ h9 => h9)⟩) (zal (⟨_, _, _, _, zc19, by decide, q733, (fun _ h9 => h9)⟩) (za0)))))) hL0 hx0 dX16_thing_5 ?_
  obtain ⟨b28, hr0, hw⟩ := hw
  subst hr0
  obtain ⟨n0, f0, v29, hM0, hi0, hr0, hw⟩ := hw
  refine z_aald hC hZ hM0 (by decide) rfl hi0 hr0 dX16_thing_8 ?_
  refine z_ifnull (tgt := 16) hC dX16_thing_9 (by decide) (fun hr0 => ?_) (fun b30 hr0 => ?_)
  · replace hw := hw.1 hr0
    refine lv_iconst (v := 0) hx hb dX16_thing_16 (by decide) ?_
    exact wk_X16_thing_L17 hG _ _ _ _ _ hk hn hZ (lv_sub hl [0, 1] rfl) hw
  · replace hw := hw.2 b30 hr0
    subst hr0
    refine lv_iconst (v := 1) hx hb dX16_thing_12 (by decide) ?_
    refine lv_goto (tgt := 17) hx hb dX16_thing_13 (by decide) ?_
    exact wk_X16_thing_L17 hG _ _ _ _ _ hk hn hZ (lv_sub hl [0, 1] rfl) hw
abbrev rm_X25_write : Room := { frames := 4, cells := 0, slots := 0, locals := 133 }
def wp_X25_write (D : zD) (post : Unit → zM → Prop) (o : Nat) (a0 : Option Nat) (M : zM) : Prop :=
    (zgR M o 22 0 fun g1 => ((zd a0 fun b2 => (zis M b2 [25] ∧ wp_X28_plainly D (fun _ M => post () M) b2 g1 M))))
set_option maxHeartbeats 4000000 in
set_option maxRecDepth 100000 in
theorem w_X25_write {l : Launch} {D : zD} {post : Unit → zM → Prop} (hlt : l.stackTraces = false) {o : Nat} {a0 : Option Nat} {M : zM} (hw : wp_X25_write D post o a0 M) : zMet l D yX25_write (ws_ yX25_write cX25_write 2 (none)) rm_X25_write 0 0 [.ref o, va_rf a0] M zU post (fun _ _ => False) := by
  unfold wp_X25_write at hw
  have hlv : lv_args 0 [.ref o, va_rf a0] = [(0, .ref o), (1, va_rf a0)] := (zargs1 rfl (zargs1 (zcat _) rfl))
  refine z_ofW hlt (by decide) (Nat.le_trans (zsl1 rfl (zsl1 (zcat _) (Nat.le_refl 0 : (lg_sl []).length ≤ 0))) (Nat.le_of_ble_eq_true rfl)) hlv ?_
  intro p e s m args below meth c ls hG hZ hl
  have hC := hG.1
  have hx := hC.x
  have hb := hC.b
  have hown := hC.o
  have hts := hC.ts
  have hlt := hG.2.2.2.2.2
  obtain ⟨cells, hce⟩ : ∃ z : Nat, z = 0 := ⟨0, rfl⟩
  obtain ⟨slots, hsl⟩ : ∃ z : Nat, z = 0 := ⟨0, rfl⟩
  refine W.cs (cells' := cells) (slots' := slots) hce.symm hsl.symm ?_
  have hk : cells ≤ 0 := Nat.le_of_eq hce
  have hn : slots ≤ 0 := Nat.le_of_eq hsl
  clear hce hsl
  refine z_aload_n hC dX25_write_0 rfl (lv_at hl 1 rfl) ?_
  refine lv_aload_n hx hb dX25_write_1 rfl (lv_at hl 0 rfl) ?_
  obtain ⟨fs0, g6, hM0, hx0, hw⟩ := hw
  refine z_get hC hZ hM0 zc22 0 (by decide) q1180 (fun _ h9 => h9) hx0 dX25_write_2 ?_
  obtain ⟨b7, hr0, hw⟩ := hw
  subst hr0
  obtain ⟨⟨ci0, fs0, hci0, hM0⟩, hw⟩ := hw
  obtain rfl : ci0 = 25 := List.mem_singleton.mp hci0
  refine z_callU hZ (vx_runV (As := [va_rf g6]) (rest := []) hC.fix (w_X28_plainly hlt hw) (cwV 1 hts (lw_V q1537 q1427 q1428 q113 q1429) rfl rfl rfl ⟨rfl, dd_X28_plainly⟩ ⟨Nat.le_of_ble_eq_true rfl, Nat.le_of_ble_eq_true rfl⟩) (z_preV hC hZ hM0 zc25) rfl rfl hl.1 rfl (lv_room (Nat.zero_le _)) dX25_write_5 ⟨hk, hn⟩) (fun r8 M H locs hw1 hZ => ?_) (fun q M H locs ci fs E T9 N9 hw hZ hc1 hM1 hb1 => False.elim hw)
  replace hw := hw1
  clear hw1
  refine W.cs (cells' := cells) (slots' := slots) rfl rfl ?_
  exact z_vret hG hZ hk hn hw dX25_write_8
abbrev rm_X26_write : Room := { frames := 5, cells := 0, slots := 0, locals := 149 }
def wp_X26_write (D : zD) (post : Unit → zM → Prop) (o : Nat) (a0 : Option Nat) (M : zM) : Prop :=
    (zgI M o 23 0 fun g1 => ((zis M (D.2.2.2 (10 + 7)) [30] ∧ wp_J11_charAt D (fun r2 M => ((zd a0 fun b5 => (zis M b5 [25] ∧ wp_X28_put D (fun _ M => post () M) b5 r2 M)))) (D.2.2.2 (10 + 7)) g1 M)))
set_option maxHeartbeats 4000000 in
set_option maxRecDepth 100000 in
theorem w_X26_write {l : Launch} {D : zD} {post : Unit → zM → Prop} (hlt : l.stackTraces = false) {o : Nat} {a0 : Option Nat} {M : zM} (hw : wp_X26_write D post o a0 M) : zMet l D yX26_write (ws_ yX26_write cX26_write 2 (none)) rm_X26_write 0 0 [.ref o, va_rf a0] M zU post (fun _ _ => False) := by
  unfold wp_X26_write at hw
  have hlv : lv_args 0 [.ref o, va_rf a0] = [(0, .ref o), (1, va_rf a0)] := (zargs1 rfl (zargs1 (zcat _) rfl))
  refine z_ofW hlt (by decide) (Nat.le_trans (zsl1 rfl (zsl1 (zcat _) (Nat.le_refl 0 : (lg_sl []).length ≤ 0))) (Nat.le_of_ble_eq_true rfl)) hlv ?_
  intro p e s m args below meth c ls hG hZ hl
  have hC := hG.1
  have hx := hC.x
  have hb := hC.b
  have hown := hC.o
  have hts := hC.ts
  have hlt := hG.2.2.2.2.2
  obtain ⟨cells, hce⟩ : ∃ z : Nat, z = 0 := ⟨0, rfl⟩
  obtain ⟨slots, hsl⟩ : ∃ z : Nat, z = 0 := ⟨0, rfl⟩
  refine W.cs (cells' := cells) (slots' := slots) hce.symm hsl.symm ?_
  have hk : cells ≤ 0 := Nat.le_of_eq hce
  have hn : slots ≤ 0 := Nat.le_of_eq hsl
  clear hce hsl
  refine z_aload_n hC dX26_write_0 rfl (lv_at hl 1 rfl) ?_
  refine z_ldcS (i := 7) hC rfl dX26_write_1 ?_
  refine lv_aload_n hx hb dX26_write_3 rfl (lv_at hl 0 rfl) ?_
  obtain ⟨fs0, g9, hM0, hx0, hw⟩ := hw
  refine z_get hC hZ hM0 zc23 0 (by decide) q1195 (fun _ h9 => h9) hx0 dX26_write_4 ?_
  obtain ⟨⟨ci0, fs0, hci0, hM0⟩, hw⟩ := hw
  obtain rfl : ci0 = 30 := List.mem_singleton.mp hci0
  refine z_callI hZ (vx_runV (As := [.int g9]) (rest := [va_rf a0]) hC.fix (w_J11_charAt hlt hw) (cwV 1 hts (lw_V q1475 q1476 q1477 q102 q1478) rfl rfl rfl ⟨rfl, dd_J11_charAt⟩ ⟨Nat.le_of_ble_eq_true rfl, Nat.le_of_ble_eq_true rfl⟩) (z_preV hC hZ hM0 zc30) rfl rfl hl.1 rfl (lv_room (Nat.le_trans (zrm1 (zcat _) zrm0) (Nat.le_of_ble_eq_true rfl))) dX26_write_7 ⟨hk, hn⟩) (fun r10 M H locs hw1 hZ => ?_) (fun q M H locs ci fs E T9 N9 hw hZ hc1 hM1 hb1 => False.elim hw)
  replace hw := hw1
  clear hw1
  refine W.cs (cells' := cells) (slots' := slots) rfl rfl ?_
  obtain ⟨b13, hr0, hw⟩ := hw
  subst hr0
  obtain ⟨⟨ci0, fs0, hci0, hM0⟩, hw⟩ := hw
  obtain rfl : ci0 = 25 := List.mem_singleton.mp hci0
  refine z_callU hZ (vx_runV (As := [.int r10]) (rest := []) hC.fix (w_X28_put hlt hw) (cwV 1 hts (lw_V q1493 q1431 q1432 q113 q1433) rfl rfl rfl ⟨rfl, dd_X28_put⟩ ⟨Nat.le_of_ble_eq_true rfl, Nat.le_of_ble_eq_true rfl⟩) (z_preV hC hZ hM0 zc25) rfl rfl hl.1 rfl (lv_room (Nat.zero_le _)) dX26_write_10 ⟨hk, hn⟩) (fun r14 M H locs hw1 hZ => ?_) (fun q M H locs ci fs E T9 N9 hw hZ hc1 hM1 hb1 => False.elim hw)
  replace hw := hw1
  clear hw1
  refine W.cs (cells' := cells) (slots' := slots) rfl rfl ?_
  exact z_vret hG hZ hk hn hw dX26_write_13
abbrev rm_X2_joiner : Room := { frames := 1, cells := 0, slots := 0, locals := 64 }
def wp_X2_joiner_L12 (D : zD) (post : Option Nat → zM → Prop) (o : Nat) (y0 : Option Nat) (M : zM) : Prop :=
    post y0 M
set_option maxHeartbeats 4000000 in
set_option maxRecDepth 100000 in
theorem wk_X2_joiner_L12 {p : Program} {l : Launch} {e : Env} {s : State} {m : MethodId} {args : Array Value} {below : List Frame} {meth : Method} {c : Code} {D : zD} {post : Option Nat → zM → Prop} {o : Nat} (hG : zGx p l s m args meth c cX2_joiner 2 "PluralBranches$Language" D (some (.object "java/lang/String")) "joiner" []) : ∀ {H : Heap} {locs : List Loc} {cells slots : Nat} {ls : Array Slot} (y0 : Option Nat) (M : zM), cells ≤ 0 → slots ≤ 0 → zS D M H locs → lv_has ls 2 [] → wp_X2_joiner_L12 D post o y0 M → W p l e rm_X2_joiner s m args below meth c H locs cells slots (vx_MQ below (zQ D zR post) (zX D (fun _ _ => False)) args s 0 0 (zA D)) (F0 m 12 ls [va_rf y0]) := by
  have hC := hG.1
  have hx := hC.x
  have hb := hC.b
  have hown := hC.o
  have hts := hC.ts
  have hlt := hG.2.2.2.2.2
  intro H locs cells slots ls y0 M hk hn hZ hl hw
  exact z_aret (r := y0) hG (Or.inl ⟨_, rfl⟩) hZ hk hn hw dX2_joiner_12
def wp_X2_joiner (D : zD) (post : Option Nat → zM → Prop) (o : Nat) (a0 : Int32) (M : zM) : Prop :=
    ((¬ a0 = (1 : Int32) → wp_X2_joiner_L12 D post o (some (D.2.2.2 (10 + 10))) M) ∧ (a0 = (1 : Int32) → wp_X2_joiner_L12 D post o (some (D.2.2.2 (10 + 9))) M))
set_option maxHeartbeats 4000000 in
set_option maxRecDepth 100000 in
theorem w_X2_joiner {l : Launch} {D : zD} {post : Option Nat → zM → Prop} (hlt : l.stackTraces = false) {o : Nat} {a0 : Int32} {M : zM} (hw : wp_X2_joiner D post o a0 M) : zMet l D yX2_joiner (ws_ yX2_joiner cX2_joiner 2 (some (.object "java/lang/String"))) rm_X2_joiner 0 0 [.ref o, .int a0] M zR post (fun _ _ => False) := by
  unfold wp_X2_joiner at hw
  have hlv : lv_args 0 [.ref o, .int a0] = [(0, .ref o), (1, .int a0)] := (zargs1 rfl (zargs1 rfl rfl))
  refine z_ofW hlt (by decide) (Nat.le_trans (zsl1 rfl (zsl1 rfl (Nat.le_refl 0 : (lg_sl []).length ≤ 0))) (Nat.le_of_ble_eq_true rfl)) hlv ?_
  intro p e s m args below meth c ls hG hZ hl
  have hC := hG.1
  have hx := hC.x
  have hb := hC.b
  have hown := hC.o
  have hts := hC.ts
  have hlt := hG.2.2.2.2.2
  obtain ⟨cells, hce⟩ : ∃ z : Nat, z = 0 := ⟨0, rfl⟩
  obtain ⟨slots, hsl⟩ : ∃ z : Nat, z = 0 := ⟨0, rfl⟩
  refine W.cs (cells' := cells) (slots' := slots) hce.symm hsl.symm ?_
  have hk : cells ≤ 0 := Nat.le_of_eq hce
  have hn : slots ≤ 0 := Nat.le_of_eq hsl
  clear hce hsl
  refine lv_iload_n hx hb dX2_joiner_0 rfl (lv_at hl 1 rfl) ?_
  refine lv_iconst (v := 1) hx hb dX2_joiner_1 (by decide) ?_
  refine lv_icmp_ne (tgt := 10) hx hb dX2_joiner_2 (by decide) (fun c2 => ?_) (fun c2 => ?_)
  · replace hw := hw.1 c2
    refine z_ldcS (i := 10) hC rfl dX2_joiner_10 ?_
    exact wk_X2_joiner_L12 hG _ _ hk hn hZ (lv_sub hl [] rfl) hw
  · replace hw := hw.2 c2
    refine z_ldcS (i := 9) hC rfl dX2_joiner_5 ?_
    refine lv_goto (tgt := 12) hx hb dX2_joiner_7 (by decide) ?_
    exact wk_X2_joiner_L12 hG _ _ hk hn hZ (lv_sub hl [] rfl) hw
abbrev rm_X3_joiner : Room := { frames := 2, cells := 0, slots := 0, locals := 85 }
def wp_X3_joiner_L17 (D : zD) (post : Option Nat → zM → Prop) (o : Nat) (y0 : Option Nat) (M : zM) : Prop :=
    post y0 M
set_option maxHeartbeats 4000000 in
set_option maxRecDepth 100000 in
theorem wk_X3_joiner_L17 {p : Program} {l : Launch} {e : Env} {s : State} {m : MethodId} {args : Array Value} {below : List Frame} {meth : Method} {c : Code} {D : zD} {post : Option Nat → zM → Prop} {o : Nat} (hG : zGx p l s m args meth c cX3_joiner 2 "PluralBranches$Linked" D (some (.object "java/lang/String")) "joiner" []) : ∀ {H : Heap} {locs : List Loc} {cells slots : Nat} {ls : Array Slot} (y0 : Option Nat) (M : zM), cells ≤ 0 → slots ≤ 0 → zS D M H locs → lv_has ls 2 [] → wp_X3_joiner_L17 D post o y0 M → W p l e rm_X3_joiner s m args below meth c H locs cells slots (vx_MQ below (zQ D zR post) (zX D (fun _ _ => False)) args s 0 0 (zA D)) (F0 m 17 ls [va_rf y0]) := by
  have hC := hG.1
  have hx := hC.x
  have hb := hC.b
  have hown := hC.o
  have hts := hC.ts
  have hlt := hG.2.2.2.2.2
  intro H locs cells slots ls y0 M hk hn hZ hl hw
  exact z_aret (r := y0) hG (Or.inl ⟨_, rfl⟩) hZ hk hn hw dX3_joiner_17
def wp_X3_joiner (D : zD) (post : Option Nat → zM → Prop) (o : Nat) (a0 : Int32) (M : zM) : Prop :=
    ((¬ a0 = (1 : Int32) → (zgR M o 2 2 fun g1 => wp_X3_joiner_L17 D post o g1 M)) ∧ (a0 = (1 : Int32) → ((∃ fs : List Value, M o = some (.inr (2, fs)) ∧ wp_X2_joiner D (fun r2 M => wp_X3_joiner_L17 D post o r2 M) o a0 M))))
set_option maxHeartbeats 4000000 in
set_option maxRecDepth 100000 in
theorem w_X3_joiner {l : Launch} {D : zD} {post : Option Nat → zM → Prop} (hlt : l.stackTraces = false) {o : Nat} {a0 : Int32} {M : zM} (hw : wp_X3_joiner D post o a0 M) : zMet l D yX3_joiner (ws_ yX3_joiner cX3_joiner 2 (some (.object "java/lang/String"))) rm_X3_joiner 0 0 [.ref o, .int a0] M zR post (fun _ _ => False) := by
  unfold wp_X3_joiner at hw
  have hlv : lv_args 0 [.ref o, .int a0] = [(0, .ref o), (1, .int a0)] := (zargs1 rfl (zargs1 rfl rfl))
  refine z_ofW hlt (by decide) (Nat.le_trans (zsl1 rfl (zsl1 rfl (Nat.le_refl 0 : (lg_sl []).length ≤ 0))) (Nat.le_of_ble_eq_true rfl)) hlv ?_
  intro p e s m args below meth c ls hG hZ hl
  have hC := hG.1
  have hx := hC.x
  have hb := hC.b
  have hown := hC.o
  have hts := hC.ts
  have hlt := hG.2.2.2.2.2
  obtain ⟨cells, hce⟩ : ∃ z : Nat, z = 0 := ⟨0, rfl⟩
  obtain ⟨slots, hsl⟩ : ∃ z : Nat, z = 0 := ⟨0, rfl⟩
  refine W.cs (cells' := cells) (slots' := slots) hce.symm hsl.symm ?_
  have hk : cells ≤ 0 := Nat.le_of_eq hce
  have hn : slots ≤ 0 := Nat.le_of_eq hsl
  clear hce hsl
  refine lv_iload_n hx hb dX3_joiner_0 rfl (lv_at hl 1 rfl) ?_
  refine lv_iconst (v := 1) hx hb dX3_joiner_1 (by decide) ?_
  refine lv_icmp_ne (tgt := 13) hx hb dX3_joiner_2 (by decide) (fun c10 => ?_) (fun c10 => ?_)
  · replace hw := hw.1 c10
    refine lv_aload_n hx hb dX3_joiner_13 rfl (lv_at hl 0 rfl) ?_
    obtain ⟨fs0, g6, hM0, hx0, hw⟩ := hw
    refine z_get hC hZ hM0 zc2 2 (by decide) q287 (fun _ h9 => h9) hx0 dX3_joiner_14 ?_
    exact wk_X3_joiner_L17 hG _ _ hk hn hZ (lv_sub hl [] rfl) hw
  · replace hw := hw.2 c10
    refine lv_aload_n hx hb dX3_joiner_5 rfl (lv_at hl 0 rfl) ?_
    refine lv_iload_n hx hb dX3_joiner_6 rfl (lv_at hl 1 rfl) ?_
    obtain ⟨fs0, hM0, hw⟩ := hw
    refine z_callR hZ (vx_runSU (As := [.int a0]) (rest := []) (hC.vK.1 2 _ zc2.1).2 hC.fix (w_X2_joiner hlt hw) (va_cwSU 1 hts (lw_app (zal q1516 (zal q1501 (zal q298 (zal q1500 (zal q70 za0))))) (lw_meth q1510)) rfl rfl rfl (by decide +kernel) ⟨Nat.le_of_ble_eq_true rfl, Nat.le_of_ble_eq_true rfl⟩) (z_preV hC hZ hM0 zc2) rfl rfl hl.1 rfl (lv_room (Nat.zero_le _)) dX3_joiner_7 ⟨hk, hn⟩) (fun r7 M H locs hw1 hZ => ?_) (fun q M H locs ci fs E T9 N9 hw hZ hc1 hM1 hb1 => False.elim hw)
    replace hw := hw1
    clear hw1
    refine W.cs (cells' := cells) (slots' := slots) rfl rfl ?_
    refine lv_goto (tgt := 17) hx hb dX3_joiner_10 (by decide) ?_
    exact wk_X3_joiner_L17 hG _ _ hk hn hZ (lv_sub hl [] rfl) hw
abbrev rm_X5_joiner : Room := { frames := 2, cells := 0, slots := 0, locals := 85 }
def wp_X5_joiner (D : zD) (post : Option Nat → zM → Prop) (o : Nat) (a0 : Int32) (M : zM) : Prop :=
    ((∃ fs : List Value, M o = some (.inr (4, fs)) ∧ wp_X2_joiner D (fun r1 M => post r1 M) o (0 : Int32) M))
set_option maxHeartbeats 4000000 in
set_option maxRecDepth 100000 in
theorem w_X5_joiner {l : Launch} {D : zD} {post : Option Nat → zM → Prop} (hlt : l.stackTraces = false) {o : Nat} {a0 : Int32} {M : zM} (hw : wp_X5_joiner D post o a0 M) : zMet l D yX5_joiner (ws_ yX5_joiner cX5_joiner 2 (some (.object "java/lang/String"))) rm_X5_joiner 0 0 [.ref o, .int a0] M zR post (fun _ _ => False) := by
  unfold wp_X5_joiner at hw
  have hlv : lv_args 0 [.ref o, .int a0] = [(0, .ref o), (1, .int a0)] := (zargs1 rfl (zargs1 rfl rfl))
  refine z_ofW hlt (by decide) (Nat.le_trans (zsl1 rfl (zsl1 rfl (Nat.le_refl 0 : (lg_sl []).length ≤ 0))) (Nat.le_of_ble_eq_true rfl)) hlv ?_
  intro p e s m args below meth c ls hG hZ hl
  have hC := hG.1
  have hx := hC.x
  have hb := hC.b
  have hown := hC.o
  have hts := hC.ts
  have hlt := hG.2.2.2.2.2
  obtain ⟨cells, hce⟩ : ∃ z : Nat, z = 0 := ⟨0, rfl⟩
  obtain ⟨slots, hsl⟩ : ∃ z : Nat, z = 0 := ⟨0, rfl⟩
  refine W.cs (cells' := cells) (slots' := slots) hce.symm hsl.symm ?_
  have hk : cells ≤ 0 := Nat.le_of_eq hce
  have hn : slots ≤ 0 := Nat.le_of_eq hsl
  clear hce hsl
  refine lv_aload_n hx hb dX5_joiner_0 rfl (lv_at hl 0 rfl) ?_
  refine lv_iconst (v := 0) hx hb dX5_joiner_1 (by decide) ?_
  obtain ⟨fs0, hM0, hw⟩ := hw
  refine z_callR hZ (vx_runSU (As := [.int (0 : Int32)]) (rest := []) (hC.vK.1 4 _ zc4.1).2 hC.fix (w_X2_joiner hlt hw) (va_cwSU 1 hts (lw_app (zal q1509 (zal q1501 (zal q359 (zal q1500 (zal q70 za0))))) (lw_meth q1510)) rfl rfl rfl (by decide +kernel) ⟨Nat.le_of_ble_eq_true rfl, Nat.le_of_ble_eq_true rfl⟩) (z_preV hC hZ hM0 zc4) rfl rfl hl.1 rfl (lv_room (Nat.zero_le _)) dX5_joiner_2 ⟨hk, hn⟩) (fun r4 M H locs hw1 hZ => ?_) (fun q M H locs ci fs E T9 N9 hw hZ hc1 hM1 hb1 => False.elim hw)
  replace hw := hw1
  clear hw1
  refine W.cs (cells' := cells) (slots' := slots) rfl rfl ?_
  exact z_aret (r := r4) hG (Or.inl ⟨_, rfl⟩) hZ hk hn hw dX5_joiner_5
abbrev rm_X6_joiner : Room := { frames := 1, cells := 0, slots := 0, locals := 64 }
def wp_X6_joiner (D : zD) (post : Option Nat → zM → Prop) (o : Nat) (a0 : Int32) (M : zM) : Prop :=
    post (some (D.2.2.2 (10 + 8))) M
set_option maxHeartbeats 4000000 in
set_option maxRecDepth 100000 in
theorem w_X6_joiner {l : Launch} {D : zD} {post : Option Nat → zM → Prop} (hlt : l.stackTraces = false) {o : Nat} {a0 : Int32} {M : zM} (hw : wp_X6_joiner D post o a0 M) : zMet l D yX6_joiner (ws_ yX6_joiner cX6_joiner 2 (some (.object "java/lang/String"))) rm_X6_joiner 0 0 [.ref o, .int a0] M zR post (fun _ _ => False) := by
  unfold wp_X6_joiner at hw
  have hlv : lv_args 0 [.ref o, .int a0] = [(0, .ref o), (1, .int a0)] := (zargs1 rfl (zargs1 rfl rfl))
  refine z_ofW hlt (by decide) (Nat.le_trans (zsl1 rfl (zsl1 rfl (Nat.le_refl 0 : (lg_sl []).length ≤ 0))) (Nat.le_of_ble_eq_true rfl)) hlv ?_
  intro p e s m args below meth c ls hG hZ hl
  have hC := hG.1
  have hx := hC.x
  have hb := hC.b
  have hown := hC.o
  have hts := hC.ts
  have hlt := hG.2.2.2.2.2
  obtain ⟨cells, hce⟩ : ∃ z : Nat, z = 0 := ⟨0, rfl⟩
  obtain ⟨slots, hsl⟩ : ∃ z : Nat, z = 0 := ⟨0, rfl⟩
  refine W.cs (cells' := cells) (slots' := slots) hce.symm hsl.symm ?_
  have hk : cells ≤ 0 := Nat.le_of_eq hce
  have hn : slots ≤ 0 := Nat.le_of_eq hsl
  clear hce hsl
  refine z_ldcS (i := 8) hC rfl dX6_joiner_0 ?_
  exact z_aret (r := (some (D.2.2.2 (10 + 8)))) hG (Or.inl ⟨_, rfl⟩) hZ hk hn hw dX6_joiner_2
abbrev rm_X7_joiner : Room := { frames := 2, cells := 0, slots := 0, locals := 85 }
def wp_X7_joiner_L24 (D : zD) (post : Option Nat → zM → Prop) (o : Nat) (y0 : Option Nat) (M : zM) : Prop :=
    post y0 M
set_option maxHeartbeats 4000000 in
set_option maxRecDepth 100000 in
theorem wk_X7_joiner_L24 {p : Program} {l : Launch} {e : Env} {s : State} {m : MethodId} {args : Array Value} {below : List Frame} {meth : Method} {c : Code} {D : zD} {post : Option Nat → zM → Prop} {o : Nat} (hG : zGx p l s m args meth c cX7_joiner 2 "PluralBranches$Stopped" D (some (.object "java/lang/String")) "joiner" []) : ∀ {H : Heap} {locs : List Loc} {cells slots : Nat} {ls : Array Slot} (y0 : Option Nat) (M : zM), cells ≤ 0 → slots ≤ 0 → zS D M H locs → lv_has ls 2 [] → wp_X7_joiner_L24 D post o y0 M → W p l e rm_X7_joiner s m args below meth c H locs cells slots (vx_MQ below (zQ D zR post) (zX D (fun _ _ => False)) args s 0 0 (zA D)) (F0 m 24 ls [va_rf y0]) := by
  have hC := hG.1
  have hx := hC.x
  have hb := hC.b
  have hown := hC.o
  have hts := hC.ts
  have hlt := hG.2.2.2.2.2
  intro H locs cells slots ls y0 M hk hn hZ hl hw
  exact z_aret (r := y0) hG (Or.inl ⟨_, rfl⟩) hZ hk hn hw dX7_joiner_24
def wp_X7_joiner (D : zD) (post : Option Nat → zM → Prop) (o : Nat) (a0 : Int32) (M : zM) : Prop :=
    ((¬ a0 = 0 → ((¬ a0 = (1 : Int32) → wp_X7_joiner_L24 D post o (some (D.2.2.2 (10 + 12))) M) ∧ (a0 = (1 : Int32) → ((∃ fs : List Value, M o = some (.inr (6, fs)) ∧ wp_X2_joiner D (fun r1 M => wp_X7_joiner_L24 D post o r1 M) o a0 M))))) ∧ (a0 = 0 → wp_X7_joiner_L24 D post o (some (D.2.2.2 (10 + 11))) M))
set_option maxHeartbeats 4000000 in
set_option maxRecDepth 100000 in
theorem w_X7_joiner {l : Launch} {D : zD} {post : Option Nat → zM → Prop} (hlt : l.stackTraces = false) {o : Nat} {a0 : Int32} {M : zM} (hw : wp_X7_joiner D post o a0 M) : zMet l D yX7_joiner (ws_ yX7_joiner cX7_joiner 2 (some (.object "java/lang/String"))) rm_X7_joiner 0 0 [.ref o, .int a0] M zR post (fun _ _ => False) := by
  unfold wp_X7_joiner at hw
  have hlv : lv_args 0 [.ref o, .int a0] = [(0, .ref o), (1, .int a0)] := (zargs1 rfl (zargs1 rfl rfl))
  refine z_ofW hlt (by decide) (Nat.le_trans (zsl1 rfl (zsl1 rfl (Nat.le_refl 0 : (lg_sl []).length ≤ 0))) (Nat.le_of_ble_eq_true rfl)) hlv ?_
  intro p e s m args below meth c ls hG hZ hl
  have hC := hG.1
  have hx := hC.x
  have hb := hC.b
  have hown := hC.o
  have hts := hC.ts
  have hlt := hG.2.2.2.2.2
  obtain ⟨cells, hce⟩ : ∃ z : Nat, z = 0 := ⟨0, rfl⟩
  obtain ⟨slots, hsl⟩ : ∃ z : Nat, z = 0 := ⟨0, rfl⟩
  refine W.cs (cells' := cells) (slots' := slots) hce.symm hsl.symm ?_
  have hk : cells ≤ 0 := Nat.le_of_eq hce
  have hn : slots ≤ 0 := Nat.le_of_eq hsl
  clear hce hsl
  refine lv_iload_n hx hb dX7_joiner_0 rfl (lv_at hl 1 rfl) ?_
  refine lv_if_ne (tgt := 9) hx hb dX7_joiner_1 (by decide) (fun c10 => ?_) (fun c10 => ?_)
  · replace hw := hw.1 c10
    refine lv_iload_n hx hb dX7_joiner_9 rfl (lv_at hl 1 rfl) ?_
    refine lv_iconst (v := 1) hx hb dX7_joiner_10 (by decide) ?_
    refine lv_icmp_ne (tgt := 22) hx hb dX7_joiner_11 (by decide) (fun c9 => ?_) (fun c9 => ?_)
    · replace hw := hw.1 c9
      refine z_ldcS (i := 12) hC rfl dX7_joiner_22 ?_
      exact wk_X7_joiner_L24 hG _ _ hk hn hZ (lv_sub hl [] rfl) hw
    · replace hw := hw.2 c9
      refine lv_aload_n hx hb dX7_joiner_14 rfl (lv_at hl 0 rfl) ?_
      refine lv_iload_n hx hb dX7_joiner_15 rfl (lv_at hl 1 rfl) ?_
      obtain ⟨fs0, hM0, hw⟩ := hw
      refine z_callR hZ (vx_runSU (As := [.int a0]) (rest := []) (hC.vK.1 6 _ zc6.1).2 hC.fix (w_X2_joiner hlt hw) (va_cwSU 1 hts (lw_app (zal q1521 (zal q1501 (zal q380 (zal q1500 (zal q70 za0))))) (lw_meth q1510)) rfl rfl rfl (by decide +kernel) ⟨Nat.le_of_ble_eq_true rfl, Nat.le_of_ble_eq_true rfl⟩) (z_preV hC hZ hM0 zc6) rfl rfl hl.1 rfl (lv_room (Nat.zero_le _)) dX7_joiner_16 ⟨hk, hn⟩) (fun r6 M H locs hw1 hZ => ?_) (fun q M H locs ci fs E T9 N9 hw hZ hc1 hM1 hb1 => False.elim hw)
      replace hw := hw1
      clear hw1
      refine W.cs (cells' := cells) (slots' := slots) rfl rfl ?_
      refine lv_goto (tgt := 24) hx hb dX7_joiner_19 (by decide) ?_
      exact wk_X7_joiner_L24 hG _ _ hk hn hZ (lv_sub hl [] rfl) hw
  · replace hw := hw.2 c10
    refine z_ldcS (i := 11) hC rfl dX7_joiner_4 ?_
    refine lv_goto (tgt := 24) hx hb dX7_joiner_6 (by decide) ?_
    exact wk_X7_joiner_L24 hG _ _ hk hn hZ (lv_sub hl [] rfl) hw
abbrev rm_X28_puts : Room := { frames := 5, cells := 0, slots := 0, locals := 149 }
def wp_X28_puts_L2 (D : zD) (post : Unit → zM → Prop) (o : Nat) : Nat → Option Nat → Int32 → zM → Prop
  | 0 => fun _ _ _ => False
  | f + 1 => fun x1 x2 M =>
    ((zd x1 fun b1 => (zis M b1 [30] ∧ wp_J11_length D (fun r2 M => ((r2 ≤ x2 → post () M) ∧ (¬ r2 ≤ x2 → ((zis M b1 [30] ∧ wp_J11_charAt D (fun r5 M => ((zis M o [25] ∧ wp_X28_put D (fun _ M => wp_X28_puts_L2 D post o f (some b1) (x2 + 1) M) o r5 M))) b1 x2 M))))) b1 M)))
set_option maxHeartbeats 4000000 in
set_option maxRecDepth 100000 in
theorem wk_X28_puts_L2 {p : Program} {l : Launch} {e : Env} {s : State} {m : MethodId} {args : Array Value} {below : List Frame} {meth : Method} {c : Code} {D : zD} {post : Unit → zM → Prop} {o : Nat} (hG : zGx p l s m args meth c cX28_puts 3 "PluralBranches$Sheet" D (none) "puts" []) : ∀ (f : Nat), ∀ {H : Heap} {locs : List Loc} {cells slots : Nat} {ls : Array Slot} (x1 : Option Nat) (x2 : Int32) (M : zM), cells ≤ 0 → slots ≤ 0 → zS D M H locs → lv_has ls 3 [(0, .ref o), (1, va_rf x1), (2, .int x2)] → wp_X28_puts_L2 D post o f x1 x2 M → W p l e rm_X28_puts s m args below meth c H locs cells slots (vx_MQ below (zQ D zU post) (zX D (fun _ _ => False)) args s 0 0 (zA D)) (F0 m 2 ls []) := by
  have hC := hG.1
  have hx := hC.x
  have hb := hC.b
  have hown := hC.o
  have hts := hC.ts
  have hlt := hG.2.2.2.2.2
  intro f
  induction f with
  | zero =>
    intro H locs cells slots ls x1 x2 M hk hn hZ hl hw
    exact absurd hw (fun h => h)
  | succ f ih =>
    intro H locs cells slots ls x1 x2 M hk hn hZ hl hw
    refine lv_iload_n hx hb dX28_puts_2 rfl (lv_at hl 2 rfl) ?_
    refine z_aload_n hC dX28_puts_3 rfl (lv_at hl 1 rfl) ?_
    obtain ⟨b12, hr0, hw⟩ := hw
    subst hr0
    obtain ⟨⟨ci0, fs0, hci0, hM0⟩, hw⟩ := hw
    obtain rfl : ci0 = 30 := List.mem_singleton.mp hci0
    refine z_callI hZ (vx_runV (As := []) (rest := [.int x2]) hC.fix (w_J11_length hlt hw) (cwV 0 hts (lw_V q1527 q887 q888 q102 q889) rfl rfl rfl ⟨rfl, dd_J11_length⟩ ⟨Nat.le_of_ble_eq_true rfl, Nat.le_of_ble_eq_true rfl⟩) (z_preV hC hZ hM0 zc30) rfl rfl hl.1 rfl (lv_room (Nat.le_trans (zrm1 rfl zrm0) (Nat.le_of_ble_eq_true rfl))) dX28_puts_4 ⟨hk, hn⟩) (fun r13 M H locs hw1 hZ => ?_) (fun q M H locs ci fs E T9 N9 hw hZ hc1 hM1 hb1 => False.elim hw)
    replace hw := hw1
    clear hw1
    refine W.cs (cells' := cells) (slots' := slots) rfl rfl ?_
    refine lv_icmp_ge (tgt := 25) hx hb dX28_puts_7 (by decide) (fun c22 => ?_) (fun c22 => ?_)
    · replace hw := hw.1 c22
      exact z_vret hG hZ hk hn hw dX28_puts_25
    · replace hw := hw.2 c22
      refine lv_aload_n hx hb dX28_puts_10 rfl (lv_at hl 0 rfl) ?_
      refine lv_aload_n hx hb dX28_puts_11 rfl (lv_at hl 1 rfl) ?_
      refine lv_iload_n hx hb dX28_puts_12 rfl (lv_at hl 2 rfl) ?_
      obtain ⟨⟨ci0, fs0, hci0, hM0⟩, hw⟩ := hw
      obtain rfl : ci0 = 30 := List.mem_singleton.mp hci0
      refine z_callI hZ (vx_runV (As := [.int x2]) (rest := [.ref o]) hC.fix (w_J11_charAt hlt hw) (cwV 1 hts (lw_V q1528 q1476 q1477 q102 q1478) rfl rfl rfl ⟨rfl, dd_J11_charAt⟩ ⟨Nat.le_of_ble_eq_true rfl, Nat.le_of_ble_eq_true rfl⟩) (z_preV hC hZ hM0 zc30) rfl rfl hl.1 rfl (lv_room (Nat.le_trans (zrm1 rfl zrm0) (Nat.le_of_ble_eq_true rfl))) dX28_puts_13 ⟨hk, hn⟩) (fun r16 M H locs hw1 hZ => ?_) (fun q M H locs ci fs E T9 N9 hw hZ hc1 hM1 hb1 => False.elim hw)
      replace hw := hw1
      clear hw1
      refine W.cs (cells' := cells) (slots' := slots) rfl rfl ?_
      obtain ⟨⟨ci0, fs0, hci0, hM0⟩, hw⟩ := hw
      obtain rfl : ci0 = 25 := List.mem_singleton.mp hci0
      refine z_callU hZ (vx_runV (As := [.int r16]) (rest := []) hC.fix (w_X28_put hlt hw) (cwV 1 hts (lw_V q1430 q1431 q1432 q113 q1433) rfl rfl rfl ⟨rfl, dd_X28_put⟩ ⟨Nat.le_of_ble_eq_true rfl, Nat.le_of_ble_eq_true rfl⟩) (z_preV hC hZ hM0 zc25) rfl rfl hl.1 rfl (lv_room (Nat.zero_le _)) dX28_puts_16 ⟨hk, hn⟩) (fun r19 M H locs hw1 hZ => ?_) (fun q M H locs ci fs E T9 N9 hw hZ hc1 hM1 hb1 => False.elim hw)
      replace hw := hw1
      clear hw1
      refine W.cs (cells' := cells) (slots' := slots) rfl rfl ?_
      refine lv_iinc (v := (x2 + 1)) (lv' := [(2, .int (x2 + 1)), (0, .ref o), (1, .ref b12)]) hx hb dX28_puts_19 hl (k := 2) rfl rfl (by decide) rfl (fun ls hl1 => ?_)
      replace hl := hl1
      clear hl1
      refine lv_goto (tgt := 2) hx hb dX28_puts_22 (by decide) ?_
      exact ih _ _ _ hk hn hZ (lv_sub hl [1, 2, 0] rfl) hw
def wp_X28_puts (D : zD) (post : Unit → zM → Prop) (o : Nat) (a0 : Option Nat) (M : zM) : Prop :=
    (∃ f, wp_X28_puts_L2 D post o f a0 (0 : Int32) M)
set_option maxHeartbeats 4000000 in
set_option maxRecDepth 100000 in
theorem w_X28_puts {l : Launch} {D : zD} {post : Unit → zM → Prop} (hlt : l.stackTraces = false) {o : Nat} {a0 : Option Nat} {M : zM} (hw : wp_X28_puts D post o a0 M) : zMet l D yX28_puts (ws_ yX28_puts cX28_puts 3 (none)) rm_X28_puts 0 0 [.ref o, va_rf a0] M zU post (fun _ _ => False) := by
  unfold wp_X28_puts at hw
  have hlv : lv_args 0 [.ref o, va_rf a0] = [(0, .ref o), (1, va_rf a0)] := (zargs1 rfl (zargs1 (zcat _) rfl))
  refine z_ofW hlt (by decide) (Nat.le_trans (zsl1 rfl (zsl1 (zcat _) (Nat.le_refl 0 : (lg_sl []).length ≤ 0))) (Nat.le_of_ble_eq_true rfl)) hlv ?_
  intro p e s m args below meth c ls hG hZ hl
  have hC := hG.1
  have hx := hC.x
  have hb := hC.b
  have hown := hC.o
  have hts := hC.ts
  have hlt := hG.2.2.2.2.2
  obtain ⟨cells, hce⟩ : ∃ z : Nat, z = 0 := ⟨0, rfl⟩
  obtain ⟨slots, hsl⟩ : ∃ z : Nat, z = 0 := ⟨0, rfl⟩
  refine W.cs (cells' := cells) (slots' := slots) hce.symm hsl.symm ?_
  have hk : cells ≤ 0 := Nat.le_of_eq hce
  have hn : slots ≤ 0 := Nat.le_of_eq hsl
  clear hce hsl
  refine lv_iconst (v := 0) hx hb dX28_puts_0 (by decide) ?_
  refine lv_istore_n (i := 2) (lv' := [(2, .int (0 : Int32)), (0, .ref o), (1, va_rf a0)]) hx hb dX28_puts_1 rfl hl (by decide) (zfc rfl (zfk rfl (zfk (zfa rfl) rfl))) (fun ls hl1 => ?_)
  replace hl := hl1
  clear hl1
  obtain ⟨f1, hw⟩ := hw
  exact wk_X28_puts_L2 hG f1 _ _ _ hk hn hZ (lv_sub hl [1, 2, 0] rfl) hw
abbrev rm_X27_write (K N : Nat) : Room := { frames := 6, cells := K, slots := N, locals := 171 }
def wp_X27_write_L49 (D : zD) (post : Unit → zM → Prop) (o : Nat) (k8 : Nat → Nat → Option Nat → Int32 → Int32 → zM → Prop) (k : Nat) (n : Nat) (x1 : Option Nat) (x2 : Int32) (x3 : Int32) (M : zM) : Prop :=
    (znew D M 1 6 [.int 0, .int 0, .long 0, .long 0, .int 0, .long 0] k n fun b1 M => (zgR M o 24 0 fun g2 => ((zd g2 fun b3 => zaI M b3 0 x3 fun v4 => (wp_X1_init D (fun _ M => ((zd x1 fun b8 => (zis M b8 [25] ∧ wp_X28_plainly D (fun _ M => k8 (k - 1) (n - 6) (some b8) x2 (x3 + 1) M) b8 (some b1) M)))) b1 v4 M)))))
set_option maxHeartbeats 4000000 in
set_option maxRecDepth 100000 in
theorem wk_X27_write_L49 {p : Program} {l : Launch} {e : Env} {s : State} {m : MethodId} {args : Array Value} {below : List Frame} {meth : Method} {c : Code} {D : zD} {post : Unit → zM → Prop} {K N : Nat} {o : Nat} (hG : zGx p l s m args meth c cX27_write 4 "PluralBranches$Listed" D (none) "write" []) (k8 : Nat → Nat → Option Nat → Int32 → Int32 → zM → Prop) (hk8 : ∀ {H : Heap} {locs : List Loc} {cells slots : Nat} {ls : Array Slot} (k : Nat) (n : Nat) (x1 : Option Nat) (x2 : Int32) (x3 : Int32) (M : zM), cells + k ≤ K → slots + n ≤ N → zS D M H locs → lv_has ls 4 [(0, .ref o), (1, va_rf x1), (2, .int x2), (3, .int x3)] → k8 k n x1 x2 x3 M → W p l e (rm_X27_write K N) s m args below meth c H locs cells slots (vx_MQ below (zQ D zU post) (zX D (fun _ _ => False)) args s K N (zA D)) (F0 m 8 ls [])) : ∀ {H : Heap} {locs : List Loc} {cells slots : Nat} {ls : Array Slot} (k : Nat) (n : Nat) (x1 : Option Nat) (x2 : Int32) (x3 : Int32) (M : zM), cells + k ≤ K → slots + n ≤ N → zS D M H locs → lv_has ls 4 [(0, .ref o), (1, va_rf x1), (2, .int x2), (3, .int x3)] → wp_X27_write_L49 D post o k8 k n x1 x2 x3 M → W p l e (rm_X27_write K N) s m args below meth c H locs cells slots (vx_MQ below (zQ D zU post) (zX D (fun _ _ => False)) args s K N (zA D)) (F0 m 49 ls []) := by
  have hC := hG.1
  have hx := hC.x
  have hb := hC.b
  have hown := hC.o
  have hts := hC.ts
  have hlt := hG.2.2.2.2.2
  intro H locs cells slots ls k n x1 x2 x3 M hk hn hZ hl hw
  refine z_aload_n hC dX27_write_49 rfl (lv_at hl 1 rfl) ?_
  obtain ⟨hk1, hn1, hw⟩ := hw
  refine z_new (fs := [.int 0, .int 0, .long 0, .long 0, .int 0, .long 0]) hC hZ zc1 q1529 q130 q68 (zdefs (N := 6) (ty := tyX1) (fs := [.int 0, .int 0, .long 0, .long 0, .int 0, .long 0]) (by decide)) (show cells + 1 ≤ K by omega) (show slots + 6 ≤ N by omega) dX27_write_50 (fun b12 H hq0 hq1 hZ => ?_)
  replace hw := hw b12 hq0 hq1
  generalize zu M _ _ = M at hw hZ
  have hk : cells + 1 + (k - 1) ≤ K := by omega
  have hn : slots + 6 + (n - 6) ≤ N := by omega
  generalize cells + 1 = cells at hk ⊢
  generalize slots + 6 = slots at hn ⊢
  clear hk1 hn1
  refine lv_dup hx hb dX27_write_53 rfl ?_
  refine lv_aload_n hx hb dX27_write_54 rfl (lv_at hl 0 rfl) ?_
  obtain ⟨fs0, g13, hM0, hx0, hw⟩ := hw
  refine z_get hC hZ hM0 zc24 0 (by decide) q1212 (fun _ h9 => h9) hx0 dX27_write_55 ?_
  refine lv_iload_n hx hb dX27_write_58 rfl (lv_at hl 3 rfl) ?_
  obtain ⟨b14, hr0, hw⟩ := hw
  subst hr0
  obtain ⟨n0, f0, hM0, hi0, hw⟩ := hw
  refine z_iald hC hZ hM0 hi0 dX27_write_59 ?_
  generalize f0 _ = v15 at hw ⊢
  refine z_callU hZ (vx_runI (As := [.int v15]) (rest := [.ref b12, va_rf x1]) hC.fix (w_X1_init hlt hw) (cwI 1 hts (lw_meth q133) rfl rfl rfl (hts _ q68) (hts _ q1530) (hts _ q132) rfl dd_X1_init ⟨Nat.le_of_ble_eq_true rfl, Nat.le_of_ble_eq_true rfl⟩) (z_preS hC hZ) rfl rfl hl.1 rfl (lv_room (Nat.le_trans (zrm1 rfl (zrm1 (zcat _) zrm0)) (Nat.le_of_ble_eq_true rfl))) dX27_write_60 ⟨(show cells + 0 ≤ K by omega), (show slots + 0 ≤ N by omega)⟩) (fun r16 M H locs hw1 hZ => ?_) (fun q M H locs ci fs E T9 N9 hw hZ hc1 hM1 hb1 => False.elim hw)
  replace hw := hw1
  clear hw1
  refine W.cs (cells' := cells) (slots' := slots) rfl rfl ?_
  obtain ⟨b19, hr0, hw⟩ := hw
  subst hr0
  obtain ⟨⟨ci0, fs0, hci0, hM0⟩, hw⟩ := hw
  obtain rfl : ci0 = 25 := List.mem_singleton.mp hci0
  refine z_callU hZ (vx_runV (As := [.ref b12]) (rest := []) hC.fix (w_X28_plainly hlt hw) (cwV 1 hts (lw_V q1531 q1427 q1428 q113 q1429) rfl rfl rfl ⟨rfl, dd_X28_plainly⟩ ⟨Nat.le_of_ble_eq_true rfl, Nat.le_of_ble_eq_true rfl⟩) (z_preV hC hZ hM0 zc25) rfl rfl hl.1 rfl (lv_room (Nat.zero_le _)) dX27_write_63 ⟨(show cells + 0 ≤ K by omega), (show slots + 0 ≤ N by omega)⟩) (fun r20 M H locs hw1 hZ => ?_) (fun q M H locs ci fs E T9 N9 hw hZ hc1 hM1 hb1 => False.elim hw)
  replace hw := hw1
  clear hw1
  refine W.cs (cells' := cells) (slots' := slots) rfl rfl ?_
  refine lv_iinc (v := (x3 + 1)) (lv' := [(3, .int (x3 + 1)), (0, .ref o), (1, .ref b19), (2, .int x2)]) hx hb dX27_write_66 hl (k := 3) rfl rfl (by decide) rfl (fun ls hl1 => ?_)
  replace hl := hl1
  clear hl1
  refine lv_goto (tgt := 8) hx hb dX27_write_69 (by decide) ?_
  exact hk8 _ _ _ _ _ _ hk hn hZ (lv_sub hl [1, 2, 3, 0] rfl) hw
def wp_X27_write_L46 (D : zD) (post : Unit → zM → Prop) (o : Nat) (k8 : Nat → Nat → Option Nat → Int32 → Int32 → zM → Prop) (k : Nat) (n : Nat) (x1 : Option Nat) (x2 : Int32) (x3 : Int32) (y0 : Option Nat) (y1 : Option Nat) (M : zM) : Prop :=
    ((zd y0 fun b23 => (zis M b23 [25] ∧ wp_X28_puts D (fun _ M => wp_X27_write_L49 D post o k8 k n x1 x2 x3 M) b23 y1 M)))
set_option maxHeartbeats 4000000 in
set_option maxRecDepth 100000 in
theorem wk_X27_write_L46 {p : Program} {l : Launch} {e : Env} {s : State} {m : MethodId} {args : Array Value} {below : List Frame} {meth : Method} {c : Code} {D : zD} {post : Unit → zM → Prop} {K N : Nat} {o : Nat} (hG : zGx p l s m args meth c cX27_write 4 "PluralBranches$Listed" D (none) "write" []) (k8 : Nat → Nat → Option Nat → Int32 → Int32 → zM → Prop) (hk8 : ∀ {H : Heap} {locs : List Loc} {cells slots : Nat} {ls : Array Slot} (k : Nat) (n : Nat) (x1 : Option Nat) (x2 : Int32) (x3 : Int32) (M : zM), cells + k ≤ K → slots + n ≤ N → zS D M H locs → lv_has ls 4 [(0, .ref o), (1, va_rf x1), (2, .int x2), (3, .int x3)] → k8 k n x1 x2 x3 M → W p l e (rm_X27_write K N) s m args below meth c H locs cells slots (vx_MQ below (zQ D zU post) (zX D (fun _ _ => False)) args s K N (zA D)) (F0 m 8 ls [])) : ∀ {H : Heap} {locs : List Loc} {cells slots : Nat} {ls : Array Slot} (k : Nat) (n : Nat) (x1 : Option Nat) (x2 : Int32) (x3 : Int32) (y0 : Option Nat) (y1 : Option Nat) (M : zM), cells + k ≤ K → slots + n ≤ N → zS D M H locs → lv_has ls 4 [(0, .ref o), (1, va_rf x1), (2, .int x2), (3, .int x3)] → wp_X27_write_L46 D post o k8 k n x1 x2 x3 y0 y1 M → W p l e (rm_X27_write K N) s m args below meth c H locs cells slots (vx_MQ below (zQ D zU post) (zX D (fun _ _ => False)) args s K N (zA D)) (F0 m 46 ls [va_rf y1, va_rf y0]) := by
  have hC := hG.1
  have hx := hC.x
  have hb := hC.b
  have hown := hC.o
  have hts := hC.ts
  have hlt := hG.2.2.2.2.2
  intro H locs cells slots ls k n x1 x2 x3 y0 y1 M hk hn hZ hl hw
  obtain ⟨b27, hr0, hw⟩ := hw
  subst hr0
  obtain ⟨⟨ci0, fs0, hci0, hM0⟩, hw⟩ := hw
  obtain rfl : ci0 = 25 := List.mem_singleton.mp hci0
  refine z_callU hZ (vx_runV (As := [va_rf y1]) (rest := []) hC.fix (w_X28_puts hlt hw) (cwV 1 hts (lw_V q1523 q1524 q1525 q113 q1526) rfl rfl rfl ⟨rfl, dd_X28_puts⟩ ⟨Nat.le_of_ble_eq_true rfl, Nat.le_of_ble_eq_true rfl⟩) (z_preV hC hZ hM0 zc25) rfl rfl hl.1 rfl (lv_room (Nat.zero_le _)) dX27_write_46 ⟨(show cells + 0 ≤ K by omega), (show slots + 0 ≤ N by omega)⟩) (fun r28 M H locs hw1 hZ => ?_) (fun q M H locs ci fs E T9 N9 hw hZ hc1 hM1 hb1 => False.elim hw)
  replace hw := hw1
  clear hw1
  refine W.cs (cells' := cells) (slots' := slots) rfl rfl ?_
  exact wk_X27_write_L49 hG k8 hk8 _ _ _ _ _ _ hk hn hZ (lv_sub hl [0, 1, 2, 3] rfl) hw
def wp_X27_write_L43 (D : zD) (post : Unit → zM → Prop) (o : Nat) (k8 : Nat → Nat → Option Nat → Int32 → Int32 → zM → Prop) (k : Nat) (n : Nat) (x1 : Option Nat) (x2 : Int32) (x3 : Int32) (y0 : Option Nat) (y1 : Option Nat) (y2 : Int32) (M : zM) : Prop :=
    ((zd y1 fun b31 => ((zis M b31 [2] ∧ wp_X3_joiner D (fun r32 M => wp_X27_write_L46 D post o k8 k n x1 x2 x3 y0 r32 M) b31 y2 M) ∨ (zis M b31 [4] ∧ wp_X5_joiner D (fun r35 M => wp_X27_write_L46 D post o k8 k n x1 x2 x3 y0 r35 M) b31 y2 M) ∨ (zis M b31 [5] ∧ wp_X6_joiner D (fun r38 M => wp_X27_write_L46 D post o k8 k n x1 x2 x3 y0 r38 M) b31 y2 M) ∨ (zis M b31 [6] ∧ wp_X7_joiner D (fun r41 M => wp_X27_write_L46 D post o k8 k n x1 x2 x3 y0 r41 M) b31 y2 M))))
set_option maxHeartbeats 4000000 in
set_option maxRecDepth 100000 in
theorem wk_X27_write_L43 {p : Program} {l : Launch} {e : Env} {s : State} {m : MethodId} {args : Array Value} {below : List Frame} {meth : Method} {c : Code} {D : zD} {post : Unit → zM → Prop} {K N : Nat} {o : Nat} (hG : zGx p l s m args meth c cX27_write 4 "PluralBranches$Listed" D (none) "write" []) (k8 : Nat → Nat → Option Nat → Int32 → Int32 → zM → Prop) (hk8 : ∀ {H : Heap} {locs : List Loc} {cells slots : Nat} {ls : Array Slot} (k : Nat) (n : Nat) (x1 : Option Nat) (x2 : Int32) (x3 : Int32) (M : zM), cells + k ≤ K → slots + n ≤ N → zS D M H locs → lv_has ls 4 [(0, .ref o), (1, va_rf x1), (2, .int x2), (3, .int x3)] → k8 k n x1 x2 x3 M → W p l e (rm_X27_write K N) s m args below meth c H locs cells slots (vx_MQ below (zQ D zU post) (zX D (fun _ _ => False)) args s K N (zA D)) (F0 m 8 ls [])) : ∀ {H : Heap} {locs : List Loc} {cells slots : Nat} {ls : Array Slot} (k : Nat) (n : Nat) (x1 : Option Nat) (x2 : Int32) (x3 : Int32) (y0 : Option Nat) (y1 : Option Nat) (y2 : Int32) (M : zM), cells + k ≤ K → slots + n ≤ N → zS D M H locs → lv_has ls 4 [(0, .ref o), (1, va_rf x1), (2, .int x2), (3, .int x3)] → wp_X27_write_L43 D post o k8 k n x1 x2 x3 y0 y1 y2 M → W p l e (rm_X27_write K N) s m args below meth c H locs cells slots (vx_MQ below (zQ D zU post) (zX D (fun _ _ => False)) args s K N (zA D)) (F0 m 43 ls [.int y2, va_rf y1, va_rf y0]) := by
  have hC := hG.1
  have hx := hC.x
  have hb := hC.b
  have hown := hC.o
  have hts := hC.ts
  have hlt := hG.2.2.2.2.2
  intro H locs cells slots ls k n x1 x2 x3 y0 y1 y2 M hk hn hZ hl hw
  obtain ⟨b44, hr0, hw⟩ := hw
  subst hr0
  rcases hw with hw | hw | hw | hw
  · obtain ⟨⟨ci0, fs0, hci0, hM0⟩, hw⟩ := hw
    obtain ⟨C0, T0, N0, ty0, hc0, hsel0⟩ : ∃ (C0 : String) (T0 : u_T) (N0 : Nat) (ty0 : Nat → FieldType), zCls ci0 C0 T0 N0 ty0 ∧ Cond.selects C0 ⟨"PluralBranches$Language", "joiner", "(I)Ljava/lang/String;"⟩ yX3_joiner ∈ lw_all := (zal ⟨_, _, _, _, zc2, q1513⟩ (za0) : ∀ ci ∈ [2], ∃ (C0 : String) (T0 : u_T) (N0 : Nat) (ty0 : Nat → FieldType), zCls ci C0 T0 N0 ty0 ∧ Cond.selects C0 ⟨"PluralBranches$Language", "joiner", "(I)Ljava/lang/String;"⟩ yX3_joiner ∈ lw_all) ci0 hci0
    refine z_callR hZ (vx_runU (As := [.int y2]) (rest := [va_rf y0]) hC.fix (w_X3_joiner hlt hw) (va_cwO (owner := "PluralBranches$Language") (x := ⟨"PluralBranches$Language", "joiner", "(I)Ljava/lang/String;"⟩) 1 hts (lw_app (zal q1499 (zal q1501 (zal q1500 (zal hsel0 (zal q1514 (zal q71 za0)))))) (lw_meth q1515)) rfl rfl rfl q1510 (by decide +kernel) ⟨Nat.le_of_ble_eq_true rfl, Nat.le_of_ble_eq_true rfl⟩) (z_preV hC hZ hM0 hc0) rfl rfl hl.1 rfl (lv_room (Nat.le_trans (zrm1 (zcat _) zrm0) (Nat.le_of_ble_eq_true rfl))) dX27_write_43 ⟨(show cells + 0 ≤ K by omega), (show slots + 0 ≤ N by omega)⟩) (fun r45 M H locs hw1 hZ => ?_) (fun q M H locs ci fs E T9 N9 hw hZ hc1 hM1 hb1 => False.elim hw)
    replace hw := hw1
    clear hw1
    refine W.cs (cells' := cells) (slots' := slots) rfl rfl ?_
    exact wk_X27_write_L46 hG k8 hk8 _ _ _ _ _ _ _ _ hk hn hZ (lv_sub hl [0, 1, 2, 3] rfl) hw
  · obtain ⟨⟨ci0, fs0, hci0, hM0⟩, hw⟩ := hw
    obtain ⟨C0, T0, N0, ty0, hc0, hsel0⟩ : ∃ (C0 : String) (T0 : u_T) (N0 : Nat) (ty0 : Nat → FieldType), zCls ci0 C0 T0 N0 ty0 ∧ Cond.selects C0 ⟨"PluralBranches$Language", "joiner", "(I)Ljava/lang/String;"⟩ yX5_joiner ∈ lw_all := (zal ⟨_, _, _, _, zc4, q1506⟩ (za0) : ∀ ci ∈ [4], ∃ (C0 : String) (T0 : u_T) (N0 : Nat) (ty0 : Nat → FieldType), zCls ci C0 T0 N0 ty0 ∧ Cond.selects C0 ⟨"PluralBranches$Language", "joiner", "(I)Ljava/lang/String;"⟩ yX5_joiner ∈ lw_all) ci0 hci0
    refine z_callR hZ (vx_runU (As := [.int y2]) (rest := [va_rf y0]) hC.fix (w_X5_joiner hlt hw) (va_cwO (owner := "PluralBranches$Language") (x := ⟨"PluralBranches$Language", "joiner", "(I)Ljava/lang/String;"⟩) 1 hts (lw_app (zal q1499 (zal q1501 (zal q1500 (zal hsel0 (zal q1507 (zal q79 za0)))))) (lw_meth q1508)) rfl rfl rfl q1510 (by decide +kernel) ⟨Nat.le_of_ble_eq_true rfl, Nat.le_of_ble_eq_true rfl⟩) (z_preV hC hZ hM0 hc0) rfl rfl hl.1 rfl (lv_room (Nat.le_trans (zrm1 (zcat _) zrm0) (Nat.le_of_ble_eq_true rfl))) dX27_write_43 ⟨(show cells + 0 ≤ K by omega), (show slots + 0 ≤ N by omega)⟩) (fun r48 M H locs hw1 hZ => ?_) (fun q M H locs ci fs E T9 N9 hw hZ hc1 hM1 hb1 => False.elim hw)
    replace hw := hw1
    clear hw1
    refine W.cs (cells' := cells) (slots' := slots) rfl rfl ?_
    exact wk_X27_write_L46 hG k8 hk8 _ _ _ _ _ _ _ _ hk hn hZ (lv_sub hl [0, 1, 2, 3] rfl) hw
  · obtain ⟨⟨ci0, fs0, hci0, hM0⟩, hw⟩ := hw
    obtain ⟨C0, T0, N0, ty0, hc0, hsel0⟩ : ∃ (C0 : String) (T0 : u_T) (N0 : Nat) (ty0 : Nat → FieldType), zCls ci0 C0 T0 N0 ty0 ∧ Cond.selects C0 ⟨"PluralBranches$Language", "joiner", "(I)Ljava/lang/String;"⟩ yX6_joiner ∈ lw_all := (zal ⟨_, _, _, _, zc5, q1502⟩ (za0) : ∀ ci ∈ [5], ∃ (C0 : String) (T0 : u_T) (N0 : Nat) (ty0 : Nat → FieldType), zCls ci C0 T0 N0 ty0 ∧ Cond.selects C0 ⟨"PluralBranches$Language", "joiner", "(I)Ljava/lang/String;"⟩ yX6_joiner ∈ lw_all) ci0 hci0
    refine z_callR hZ (vx_runU (As := [.int y2]) (rest := [va_rf y0]) hC.fix (w_X6_joiner hlt hw) (va_cwO (owner := "PluralBranches$Language") (x := ⟨"PluralBranches$Language", "joiner", "(I)Ljava/lang/String;"⟩) 1 hts (lw_app (zal q1499 (zal q1501 (zal q1500 (zal hsel0 (zal q1503 (zal q80 za0)))))) (lw_meth q1504)) rfl rfl rfl q1510 (by decide +kernel) ⟨Nat.le_of_ble_eq_true rfl, Nat.le_of_ble_eq_true rfl⟩) (z_preV hC hZ hM0 hc0) rfl rfl hl.1 rfl (lv_room (Nat.le_trans (zrm1 (zcat _) zrm0) (Nat.le_of_ble_eq_true rfl))) dX27_write_43 ⟨(show cells + 0 ≤ K by omega), (show slots + 0 ≤ N by omega)⟩) (fun r51 M H locs hw1 hZ => ?_) (fun q M H locs ci fs E T9 N9 hw hZ hc1 hM1 hb1 => False.elim hw)
    replace hw := hw1
    clear hw1
    refine W.cs (cells' := cells) (slots' := slots) rfl rfl ?_
    exact wk_X27_write_L46 hG k8 hk8 _ _ _ _ _ _ _ _ hk hn hZ (lv_sub hl [0, 1, 2, 3] rfl) hw
  · obtain ⟨⟨ci0, fs0, hci0, hM0⟩, hw⟩ := hw
    obtain ⟨C0, T0, N0, ty0, hc0, hsel0⟩ : ∃ (C0 : String) (T0 : u_T) (N0 : Nat) (ty0 : Nat → FieldType), zCls ci0 C0 T0 N0 ty0 ∧ Cond.selects C0 ⟨"PluralBranches$Language", "joiner", "(I)Ljava/lang/String;"⟩ yX7_joiner ∈ lw_all := (zal ⟨_, _, _, _, zc6, q1517⟩ (za0) : ∀ ci ∈ [6], ∃ (C0 : String) (T0 : u_T) (N0 : Nat) (ty0 : Nat → FieldType), zCls ci C0 T0 N0 ty0 ∧ Cond.selects C0 ⟨"PluralBranches$Language", "joiner", "(I)Ljava/lang/String;"⟩ yX7_joiner ∈ lw_all) ci0 hci0
    refine z_callR hZ (vx_runU (As := [.int y2]) (rest := [va_rf y0]) hC.fix (w_X7_joiner hlt hw) (va_cwO (owner := "PluralBranches$Language") (x := ⟨"PluralBranches$Language", "joiner", "(I)Ljava/lang/String;"⟩) 1 hts (lw_app (zal q1499 (zal q1501 (zal q1500 (zal hsel0 (zal q1518 (zal q81 za0)))))) (lw_meth q1519)) rfl rfl rfl q1510 (by decide +kernel) ⟨Nat.le_of_ble_eq_true rfl, Nat.le_of_ble_eq_true rfl⟩) (z_preV hC hZ hM0 hc0) rfl rfl hl.1 rfl (lv_room (Nat.le_trans (zrm1 (zcat _) zrm0) (Nat.le_of_ble_eq_true rfl))) dX27_write_43 ⟨(show cells + 0 ≤ K by omega), (show slots + 0 ≤ N by omega)⟩) (fun r54 M H locs hw1 hZ => ?_) (fun q M H locs ci fs E T9 N9 hw hZ hc1 hM1 hb1 => False.elim hw)
    replace hw := hw1
    clear hw1
    refine W.cs (cells' := cells) (slots' := slots) rfl rfl ?_
    exact wk_X27_write_L46 hG k8 hk8 _ _ _ _ _ _ _ _ hk hn hZ (lv_sub hl [0, 1, 2, 3] rfl) hw
def wp_X27_write_L8 (D : zD) (post : Unit → zM → Prop) (o : Nat) : Nat → Nat → Nat → Option Nat → Int32 → Int32 → zM → Prop
  | 0 => fun _ _ _ _ _ _ => False
  | f + 1 => fun k n x1 x2 x3 M =>
    ((x2 ≤ x3 → post () M) ∧ (¬ x2 ≤ x3 → ((x3 ≤ 0 → wp_X27_write_L49 D post o (wp_X27_write_L8 D post o f) k n x1 x2 x3 M) ∧ (¬ x3 ≤ 0 → ((zd x1 fun b57 => zgR M b57 25 2 fun g58 => ((¬ x2 = (2 : Int32) → ((¬ x3 = (x2 - (1 : Int32)) → wp_X27_write_L43 D post o (wp_X27_write_L8 D post o f) k n (some b57) x2 x3 (some b57) g58 (1 : Int32) M) ∧ (x3 = (x2 - (1 : Int32)) → wp_X27_write_L43 D post o (wp_X27_write_L8 D post o f) k n (some b57) x2 x3 (some b57) g58 (2 : Int32) M))) ∧ (x2 = (2 : Int32) → wp_X27_write_L43 D post o (wp_X27_write_L8 D post o f) k n (some b57) x2 x3 (some b57) g58 (0 : Int32) M))))))))
set_option maxHeartbeats 4000000 in
set_option maxRecDepth 100000 in
theorem wk_X27_write_L8 {p : Program} {l : Launch} {e : Env} {s : State} {m : MethodId} {args : Array Value} {below : List Frame} {meth : Method} {c : Code} {D : zD} {post : Unit → zM → Prop} {K N : Nat} {o : Nat} (hG : zGx p l s m args meth c cX27_write 4 "PluralBranches$Listed" D (none) "write" []) : ∀ (f : Nat), ∀ {H : Heap} {locs : List Loc} {cells slots : Nat} {ls : Array Slot} (k : Nat) (n : Nat) (x1 : Option Nat) (x2 : Int32) (x3 : Int32) (M : zM), cells + k ≤ K → slots + n ≤ N → zS D M H locs → lv_has ls 4 [(0, .ref o), (1, va_rf x1), (2, .int x2), (3, .int x3)] → wp_X27_write_L8 D post o f k n x1 x2 x3 M → W p l e (rm_X27_write K N) s m args below meth c H locs cells slots (vx_MQ below (zQ D zU post) (zX D (fun _ _ => False)) args s K N (zA D)) (F0 m 8 ls []) := by
  have hC := hG.1
  have hx := hC.x
  have hb := hC.b
  have hown := hC.o
  have hts := hC.ts
  have hlt := hG.2.2.2.2.2
  intro f
  induction f with
  | zero =>
    intro H locs cells slots ls k n x1 x2 x3 M hk hn hZ hl hw
    exact absurd hw (fun h => h)
  | succ f ih =>
    intro H locs cells slots ls k n x1 x2 x3 M hk hn hZ hl hw
    refine lv_iload_n hx hb dX27_write_8 rfl (lv_at hl 3 rfl) ?_
    refine lv_iload_n hx hb dX27_write_9 rfl (lv_at hl 2 rfl) ?_
    refine lv_icmp_ge (tgt := 72) hx hb dX27_write_10 (by decide) (fun c68 => ?_) (fun c68 => ?_)
    · replace hw := hw.1 c68
      exact z_vret hG hZ (by omega) (by omega) hw dX27_write_72
    · replace hw := hw.2 c68
      refine lv_iload_n hx hb dX27_write_13 rfl (lv_at hl 3 rfl) ?_
      refine lv_if_le (tgt := 49) hx hb dX27_write_14 (by decide) (fun c67 => ?_) (fun c67 => ?_)
      · replace hw := hw.1 c67
        exact wk_X27_write_L49 hG _ (fun {_ _ _ _ _} _z0 _z1 _z2 _z3 _z4 _z5 h1 h2 h3 h4 h5 => ih _z0 _z1 _z2 _z3 _z4 _z5 h1 h2 h3 h4 h5) _ _ _ _ _ _ hk hn hZ (lv_sub hl [0, 1, 2, 3] rfl) hw
      · replace hw := hw.2 c67
        refine z_aload_n hC dX27_write_17 rfl (lv_at hl 1 rfl) ?_
        refine z_aload_n hC dX27_write_18 rfl (lv_at hl 1 rfl) ?_
        obtain ⟨b63, hr0, hw⟩ := hw
        subst hr0
        obtain ⟨fs0, g64, hM0, hx0, hw⟩ := hw
        refine z_getN hC hZ hM0 zc25 2 (by decide) q1377 (fun _ h9 => h9) hx0 dX27_write_19 ?_
        refine lv_iload_n hx hb dX27_write_22 rfl (lv_at hl 2 rfl) ?_
        refine lv_iconst (v := 2) hx hb dX27_write_23 (by decide) ?_
        refine lv_icmp_ne (tgt := 31) hx hb dX27_write_24 (by decide) (fun c66 => ?_) (fun c66 => ?_)
        · replace hw := hw.1 c66
          refine lv_iload_n hx hb dX27_write_31 rfl (lv_at hl 3 rfl) ?_
          refine lv_iload_n hx hb dX27_write_32 rfl (lv_at hl 2 rfl) ?_
          refine lv_iconst (v := 1) hx hb dX27_write_33 (by decide) ?_
          refine lv_isub hx hb dX27_write_34 ?_
          refine lv_icmp_ne (tgt := 42) hx hb dX27_write_35 (by decide) (fun c65 => ?_) (fun c65 => ?_)
          · replace hw := hw.1 c65
            refine lv_iconst (v := 1) hx hb dX27_write_42 (by decide) ?_
            exact wk_X27_write_L43 hG _ (fun {_ _ _ _ _} _z0 _z1 _z2 _z3 _z4 _z5 h1 h2 h3 h4 h5 => ih _z0 _z1 _z2 _z3 _z4 _z5 h1 h2 h3 h4 h5) _ _ _ _ _ _ _ _ _ hk hn hZ (lv_sub hl [0, 1, 2, 3] rfl) hw
          · replace hw := hw.2 c65
            refine lv_iconst (v := 2) hx hb dX27_write_38 (by decide) ?_
            refine lv_goto (tgt := 43) hx hb dX27_write_39 (by decide) ?_
            exact wk_X27_write_L43 hG _ (fun {_ _ _ _ _} _z0 _z1 _z2 _z3 _z4 _z5 h1 h2 h3 h4 h5 => ih _z0 _z1 _z2 _z3 _z4 _z5 h1 h2 h3 h4 h5) _ _ _ _ _ _ _ _ _ hk hn hZ (lv_sub hl [0, 1, 2, 3] rfl) hw
        · replace hw := hw.2 c66
          refine lv_iconst (v := 0) hx hb dX27_write_27 (by decide) ?_
          refine lv_goto (tgt := 43) hx hb dX27_write_28 (by decide) ?_
          exact wk_X27_write_L43 hG _ (fun {_ _ _ _ _} _z0 _z1 _z2 _z3 _z4 _z5 h1 h2 h3 h4 h5 => ih _z0 _z1 _z2 _z3 _z4 _z5 h1 h2 h3 h4 h5) _ _ _ _ _ _ _ _ _ hk hn hZ (lv_sub hl [0, 1, 2, 3] rfl) hw
def wp_X27_write (D : zD) (post : Unit → zM → Prop) (k : Nat) (n : Nat) (o : Nat) (a0 : Option Nat) (M : zM) : Prop :=
    (zgR M o 24 0 fun g69 => ((zd g69 fun b70 => zlen M b70 fun n71 => (∃ f, wp_X27_write_L8 D post o f k n a0 n71 (0 : Int32) M))))
set_option maxHeartbeats 4000000 in
set_option maxRecDepth 100000 in
theorem w_X27_write {l : Launch} {D : zD} {post : Unit → zM → Prop} (hlt : l.stackTraces = false) {k : Nat} {n : Nat} {o : Nat} {a0 : Option Nat} {M : zM} (hw : wp_X27_write D post k n o a0 M) : zMet l D yX27_write (ws_ yX27_write cX27_write 4 (none)) (rm_X27_write k n) k n [.ref o, va_rf a0] M zU post (fun _ _ => False) := by
  unfold wp_X27_write at hw
  have hlv : lv_args 0 [.ref o, va_rf a0] = [(0, .ref o), (1, va_rf a0)] := (zargs1 rfl (zargs1 (zcat _) rfl))
  refine z_ofW hlt (by decide) (Nat.le_trans (zsl1 rfl (zsl1 (zcat _) (Nat.le_refl 0 : (lg_sl []).length ≤ 0))) (Nat.le_of_ble_eq_true rfl)) hlv ?_
  intro p e s m args below meth c ls hG hZ hl
  have hC := hG.1
  have hx := hC.x
  have hb := hC.b
  have hown := hC.o
  have hts := hC.ts
  have hlt := hG.2.2.2.2.2
  obtain ⟨cells, hce⟩ : ∃ z : Nat, z = 0 := ⟨0, rfl⟩
  obtain ⟨slots, hsl⟩ : ∃ z : Nat, z = 0 := ⟨0, rfl⟩
  refine W.cs (cells' := cells) (slots' := slots) hce.symm hsl.symm ?_
  have hk : cells + k ≤ k := by omega
  have hn : slots + n ≤ n := by omega
  clear hce hsl
  refine lv_aload_n hx hb dX27_write_0 rfl (lv_at hl 0 rfl) ?_
  obtain ⟨fs0, g72, hM0, hx0, hw⟩ := hw
  refine z_get hC hZ hM0 zc24 0 (by decide) q1212 (fun _ h9 => h9) hx0 dX27_write_1 ?_
  obtain ⟨b73, hr0, hw⟩ := hw
  subst hr0
  obtain ⟨y0, hM0, hy0, hw⟩ := hw
  refine z_alen hC hZ hM0 hy0 dX27_write_4 ?_
  generalize Int32.ofNat y0.2.1 = n74 at hw ⊢
  refine lv_istore_n (i := 2) (lv' := [(2, .int n74), (0, .ref o), (1, va_rf a0)]) hx hb dX27_write_5 rfl hl (by decide) (zfc rfl (zfk rfl (zfk (zfa rfl) rfl))) (fun ls hl1 => ?_)
  replace hl := hl1
  clear hl1
  refine lv_iconst (v := 0) hx hb dX27_write_6 (by decide) ?_
  refine lv_istore_n (i := 3) (lv' := [(3, .int (0 : Int32)), (2, .int n74), (0, .ref o), (1, va_rf a0)]) hx hb dX27_write_7 rfl hl (by decide) rfl (fun ls hl1 => ?_)
  replace hl := hl1
  clear hl1
  obtain ⟨f1, hw⟩ := hw
  exact wk_X27_write_L8 hG f1 _ _ _ _ _ _ hk hn hZ (lv_sub hl [2, 3, 1, 0] rfl) hw
abbrev rm_X16_write (K N : Nat) : Room := { frames := 7, cells := K, slots := N, locals := 199 }
def wp_X16_write (D : zD) (post : Unit → zM → Prop) (xp : Nat → zM → Prop) (k : Nat) (n : Nat) (o : Nat) (a0 : Option Nat) (M : zM) : Prop :=
    ((zis M o [14, 15, 16, 18, 19] ∧ (∃ k2 n3, k2 ≤ k ∧ n3 ≤ n ∧ wp_X16_thing D (fun r1 M => ((zd r1 fun b4 => ((zis M b4 [22] ∧ wp_X25_write D (fun _ M => post () M) b4 a0 M) ∨ (zis M b4 [23] ∧ wp_X26_write D (fun _ M => post () M) b4 a0 M) ∨ (zis M b4 [24] ∧ (∃ k12 n13, k12 ≤ (k - k2) ∧ n13 ≤ (n - n3) ∧ wp_X27_write D (fun _ M => post () M) k12 n13 b4 a0 M)))))) xp k2 n3 o a0 M)))
set_option maxHeartbeats 4000000 in
set_option maxRecDepth 100000 in
theorem w_X16_write {l : Launch} {D : zD} {post : Unit → zM → Prop} {xp : Nat → zM → Prop} (hlt : l.stackTraces = false) {k : Nat} {n : Nat} {o : Nat} {a0 : Option Nat} {M : zM} (hw : wp_X16_write D post xp k n o a0 M) : zMet l D yX16_write (ws_ yX16_write cX16_write 2 (none)) (rm_X16_write k n) k n [.ref o, va_rf a0] M zU post xp := by
  unfold wp_X16_write at hw
  have hlv : lv_args 0 [.ref o, va_rf a0] = [(0, .ref o), (1, va_rf a0)] := (zargs1 rfl (zargs1 (zcat _) rfl))
  refine z_ofW hlt (by decide) (Nat.le_trans (zsl1 rfl (zsl1 (zcat _) (Nat.le_refl 0 : (lg_sl []).length ≤ 0))) (Nat.le_of_ble_eq_true rfl)) hlv ?_
  intro p e s m args below meth c ls hG hZ hl
  have hC := hG.1
  have hx := hC.x
  have hb := hC.b
  have hown := hC.o
  have hts := hC.ts
  have hlt := hG.2.2.2.2.2
  obtain ⟨cells, hce⟩ : ∃ z : Nat, z = 0 := ⟨0, rfl⟩
  obtain ⟨slots, hsl⟩ : ∃ z : Nat, z = 0 := ⟨0, rfl⟩
  refine W.cs (cells' := cells) (slots' := slots) hce.symm hsl.symm ?_
  have hk : cells + k ≤ k := by omega
  have hn : slots + n ≤ n := by omega
  clear hce hsl
  refine lv_aload_n hx hb dX16_write_0 rfl (lv_at hl 0 rfl) ?_
  refine z_aload_n hC dX16_write_1 rfl (lv_at hl 1 rfl) ?_
  obtain ⟨⟨ci0, fs0, hci0, hM0⟩, hw⟩ := hw
  obtain ⟨k15, n16, hk1, hn1, hw⟩ := hw
  obtain ⟨C0, T0, N0, ty0, hc0, hsel0⟩ : ∃ (C0 : String) (T0 : u_T) (N0 : Nat) (ty0 : Nat → FieldType), zCls ci0 C0 T0 N0 ty0 ∧ Cond.selects C0 ⟨"PluralBranches$Plain", "thing", "(LPluralBranches$Sheet;)LPluralBranches$Thing;"⟩ yX16_thing ∈ lw_all := (zal ⟨_, _, _, _, zc14, q2262⟩ (zal ⟨_, _, _, _, zc15, q2261⟩ (zal ⟨_, _, _, _, zc16, q2264⟩ (zal ⟨_, _, _, _, zc18, q2263⟩ (zal ⟨_, _, _, _, zc19, q2260⟩ (za0))))) : ∀ ci ∈ [14, 15, 16, 18, 19], ∃ (C0 : String) (T0 : u_T) (N0 : Nat) (ty0 : Nat → FieldType), zCls ci C0 T0 N0 ty0 ∧ Cond.selects C0 ⟨"PluralBranches$Plain", "thing", "(LPluralBranches$Sheet;)LPluralBranches$Thing;"⟩ yX16_thing ∈ lw_all) ci0 hci0
  refine z_callR hZ (vx_runU (As := [va_rf a0]) (rest := []) hC.fix (w_X16_thing hlt hw) (va_cwU (owner := "PluralBranches$Plain") (x := ⟨"PluralBranches$Plain", "thing", "(LPluralBranches$Sheet;)LPluralBranches$Thing;"⟩) 1 hts (lw_app (zal q1464 (zal q2259 (zal hsel0 (zal q1410 (zal q95 za0))))) (lw_meth q1411)) rfl rfl rfl rfl (by decide +kernel) ⟨Nat.le_of_ble_eq_true rfl, Nat.le_of_ble_eq_true rfl⟩) (z_preV hC hZ hM0 hc0) rfl rfl hl.1 rfl (lv_room (Nat.zero_le _)) dX16_write_2 ⟨(show cells + k15 ≤ k by omega), (show slots + n16 ≤ n by omega)⟩) (fun r14 M H locs hw1 hZ => ?_) (fun q M H locs ci fs E T9 N9 hw1 hZ hc1 hM1 hb1 => ?_)
  · replace hw := hw1
    clear hw1
    have hk : cells + k15 + (k - k15) ≤ k := by omega
    have hn : slots + n16 + (n - n16) ≤ n := by omega
    generalize cells + k15 = cells at hk ⊢
    generalize slots + n16 = slots at hn ⊢
    clear hk1 hn1
    refine z_aload_n hC dX16_write_5 rfl (lv_at hl 1 rfl) ?_
    obtain ⟨b17, hr0, hw⟩ := hw
    subst hr0
    rcases hw with hw | hw | hw
    · obtain ⟨⟨ci0, fs0, hci0, hM0⟩, hw⟩ := hw
      obtain ⟨C0, T0, N0, ty0, hc0, hsel0, hf0⟩ : ∃ (C0 : String) (T0 : u_T) (N0 : Nat) (ty0 : Nat → FieldType), zCls ci0 C0 T0 N0 ty0 ∧ Cond.selects C0 ⟨"PluralBranches$Thing", "write", "(LPluralBranches$Sheet;)V"⟩ yX25_write ∈ lw_all ∧ (C0, ⟨"PluralBranches$Thing", "write", "(LPluralBranches$Sheet;)V"⟩, yX25_write) ∈ zFs := (zal ⟨_, _, _, _, zc22, q1532, List.mem_of_getElem? (i := 11) rfl⟩ (za0) : ∀ ci ∈ [22], ∃ (C0 : String) (T0 : u_T) (N0 : Nat) (ty0 : Nat → FieldType), zCls ci C0 T0 N0 ty0 ∧ Cond.selects C0 ⟨"PluralBranches$Thing", "write", "(LPluralBranches$Sheet;)V"⟩ yX25_write ∈ lw_all ∧ (C0, ⟨"PluralBranches$Thing", "write", "(LPluralBranches$Sheet;)V"⟩, yX25_write) ∈ zFs) ci0 hci0
      refine z_callU5 hZ (vx_runF (As := [va_rf a0]) (rest := []) (hC.vK.1 _ _ hc0.1).2 hC.fix (w_X25_write hlt hw) (va_cwF 1 hts (lw_app (zal q1466 (zal hsel0 (zal q1534 (zal q109 za0)))) (lw_meth q1536)) rfl rfl rfl (hC.K.2.2.2.1 _ hf0) (by decide +kernel) ⟨Nat.le_of_ble_eq_true rfl, Nat.le_of_ble_eq_true rfl⟩) (z_preV hC hZ hM0 hc0) rfl rfl hl.1 rfl (lv_room (Nat.zero_le _)) dX16_write_6 ⟨(show cells + 0 ≤ k by omega), (show slots + 0 ≤ n by omega)⟩) (fun r18 M H locs hw1 hZ => ?_) (fun q M H locs ci fs E T9 N9 hw hZ hc1 hM1 hb1 => False.elim hw)
      replace hw := hw1
      clear hw1
      refine W.cs (cells' := cells) (slots' := slots) rfl rfl ?_
      exact z_vret hG hZ (by omega) (by omega) hw dX16_write_11
    · obtain ⟨⟨ci0, fs0, hci0, hM0⟩, hw⟩ := hw
      obtain ⟨C0, T0, N0, ty0, hc0, hsel0, hf0⟩ : ∃ (C0 : String) (T0 : u_T) (N0 : Nat) (ty0 : Nat → FieldType), zCls ci0 C0 T0 N0 ty0 ∧ Cond.selects C0 ⟨"PluralBranches$Thing", "write", "(LPluralBranches$Sheet;)V"⟩ yX26_write ∈ lw_all ∧ (C0, ⟨"PluralBranches$Thing", "write", "(LPluralBranches$Sheet;)V"⟩, yX26_write) ∈ zFs := (zal ⟨_, _, _, _, zc23, q1469, List.mem_of_getElem? (i := 9) rfl⟩ (za0) : ∀ ci ∈ [23], ∃ (C0 : String) (T0 : u_T) (N0 : Nat) (ty0 : Nat → FieldType), zCls ci C0 T0 N0 ty0 ∧ Cond.selects C0 ⟨"PluralBranches$Thing", "write", "(LPluralBranches$Sheet;)V"⟩ yX26_write ∈ lw_all ∧ (C0, ⟨"PluralBranches$Thing", "write", "(LPluralBranches$Sheet;)V"⟩, yX26_write) ∈ zFs) ci0 hci0
      refine z_callU5 hZ (vx_runF (As := [va_rf a0]) (rest := []) (hC.vK.1 _ _ hc0.1).2 hC.fix (w_X26_write hlt hw) (va_cwF 1 hts (lw_app (zal q1466 (zal hsel0 (zal q1471 (zal q110 za0)))) (lw_meth q1473)) rfl rfl rfl (hC.K.2.2.2.1 _ hf0) (by decide +kernel) ⟨Nat.le_of_ble_eq_true rfl, Nat.le_of_ble_eq_true rfl⟩) (z_preV hC hZ hM0 hc0) rfl rfl hl.1 rfl (lv_room (Nat.zero_le _)) dX16_write_6 ⟨(show cells + 0 ≤ k by omega), (show slots + 0 ≤ n by omega)⟩) (fun r21 M H locs hw1 hZ => ?_) (fun q M H locs ci fs E T9 N9 hw hZ hc1 hM1 hb1 => False.elim hw)
      replace hw := hw1
      clear hw1
      refine W.cs (cells' := cells) (slots' := slots) rfl rfl ?_
      exact z_vret hG hZ (by omega) (by omega) hw dX16_write_11
    · obtain ⟨⟨ci0, fs0, hci0, hM0⟩, hw⟩ := hw
      obtain ⟨k25, n26, hk1, hn1, hw⟩ := hw
      obtain ⟨C0, T0, N0, ty0, hc0, hsel0, hf0⟩ : ∃ (C0 : String) (T0 : u_T) (N0 : Nat) (ty0 : Nat → FieldType), zCls ci0 C0 T0 N0 ty0 ∧ Cond.selects C0 ⟨"PluralBranches$Thing", "write", "(LPluralBranches$Sheet;)V"⟩ yX27_write ∈ lw_all ∧ (C0, ⟨"PluralBranches$Thing", "write", "(LPluralBranches$Sheet;)V"⟩, yX27_write) ∈ zFs := (zal ⟨_, _, _, _, zc24, q1494, List.mem_of_getElem? (i := 10) rfl⟩ (za0) : ∀ ci ∈ [24], ∃ (C0 : String) (T0 : u_T) (N0 : Nat) (ty0 : Nat → FieldType), zCls ci C0 T0 N0 ty0 ∧ Cond.selects C0 ⟨"PluralBranches$Thing", "write", "(LPluralBranches$Sheet;)V"⟩ yX27_write ∈ lw_all ∧ (C0, ⟨"PluralBranches$Thing", "write", "(LPluralBranches$Sheet;)V"⟩, yX27_write) ∈ zFs) ci0 hci0
      refine z_callU5 hZ (vx_runF (As := [va_rf a0]) (rest := []) (hC.vK.1 _ _ hc0.1).2 hC.fix (w_X27_write hlt hw) (va_cwF 1 hts (lw_app (zal q1466 (zal hsel0 (zal q1496 (zal q111 za0)))) (lw_meth q1498)) rfl rfl rfl (hC.K.2.2.2.1 _ hf0) (by decide +kernel) ⟨Nat.le_of_ble_eq_true rfl, Nat.le_of_ble_eq_true rfl⟩) (z_preV hC hZ hM0 hc0) rfl rfl hl.1 rfl (lv_room (Nat.zero_le _)) dX16_write_6 ⟨(show cells + k25 ≤ k by omega), (show slots + n26 ≤ n by omega)⟩) (fun r24 M H locs hw1 hZ => ?_) (fun q M H locs ci fs E T9 N9 hw hZ hc1 hM1 hb1 => False.elim hw)
      replace hw := hw1
      clear hw1
      have hk : cells + k25 + ((k - k15) - k25) ≤ k := by omega
      have hn : slots + n26 + ((n - n16) - n26) ≤ n := by omega
      generalize cells + k25 = cells at hk ⊢
      generalize slots + n26 = slots at hn ⊢
      clear hk1 hn1
      exact z_vret hG hZ (by omega) (by omega) hw dX16_write_11
  · replace hw := hw1
    clear hw1
    exact z_out hG hZ hM1 hb1 hc1 za0 (by omega) (by omega) hw
abbrev rm_X17_write (K N : Nat) : Room := { frames := 8, cells := K, slots := N, locals := 220 }
def wp_X17_write (D : zD) (post : Unit → zM → Prop) (xp : Nat → zM → Prop) (k : Nat) (n : Nat) (o : Nat) (a0 : Option Nat) (M : zM) : Prop :=
    ((zis M o [15] ∧ (∃ k2 n3, k2 ≤ k ∧ n3 ≤ n ∧ wp_X16_thing D (fun r1 M => ((∃ w fs, r1 = some w ∧ M w = some (.inr (24, fs)) ∧ (zgI M o 15 0 fun g4 => ((∃ k6 n7, k6 ≤ (k - k2) ∧ n7 ≤ (n - n3) ∧ wp_X0_need D (fun _ M => ((∃ fs : List Value, M o = some (.inr (15, fs)) ∧ (∃ k9 n10, k9 ≤ ((k - k2) - k6) ∧ n10 ≤ ((n - n3) - n7) ∧ wp_X16_write D (fun _ M => post () M) xp k9 n10 o a0 M)))) xp k6 n7 (1 : Int32) ((-20 : Int32) - g4) M)))) ∨ ((∀ w, r1 = some w → zis M w [22, 23]) ∧ (zgI M o 15 0 fun g11 => ((∃ k13 n14, k13 ≤ (k - k2) ∧ n14 ≤ (n - n3) ∧ wp_X0_need D (fun _ M => ((∃ fs : List Value, M o = some (.inr (15, fs)) ∧ (∃ k16 n17, k16 ≤ ((k - k2) - k13) ∧ n17 ≤ ((n - n3) - n14) ∧ wp_X16_write D (fun _ M => post () M) xp k16 n17 o a0 M)))) xp k13 n14 (0 : Int32) ((-20 : Int32) - g11) M)))))) xp k2 n3 o a0 M)))
set_option maxHeartbeats 4000000 in
set_option maxRecDepth 100000 in
theorem w_X17_write {l : Launch} {D : zD} {post : Unit → zM → Prop} {xp : Nat → zM → Prop} (hlt : l.stackTraces = false) {k : Nat} {n : Nat} {o : Nat} {a0 : Option Nat} {M : zM} (hw : wp_X17_write D post xp k n o a0 M) : zMet l D yX17_write (ws_ yX17_write cX17_write 2 (none)) (rm_X17_write k n) k n [.ref o, va_rf a0] M zU post xp := by
  unfold wp_X17_write at hw
  have hlv : lv_args 0 [.ref o, va_rf a0] = [(0, .ref o), (1, va_rf a0)] := (zargs1 rfl (zargs1 (zcat _) rfl))
  refine z_ofW hlt (by decide) (Nat.le_trans (zsl1 rfl (zsl1 (zcat _) (Nat.le_refl 0 : (lg_sl []).length ≤ 0))) (Nat.le_of_ble_eq_true rfl)) hlv ?_
  intro p e s m args below meth c ls hG hZ hl
  have hC := hG.1
  have hx := hC.x
  have hb := hC.b
  have hown := hC.o
  have hts := hC.ts
  have hlt := hG.2.2.2.2.2
  obtain ⟨cells, hce⟩ : ∃ z : Nat, z = 0 := ⟨0, rfl⟩
  obtain ⟨slots, hsl⟩ : ∃ z : Nat, z = 0 := ⟨0, rfl⟩
  refine W.cs (cells' := cells) (slots' := slots) hce.symm hsl.symm ?_
  have hk : cells + k ≤ k := by omega
  have hn : slots + n ≤ n := by omega
  clear hce hsl
  refine lv_aload_n hx hb dX17_write_0 rfl (lv_at hl 0 rfl) ?_
  refine z_aload_n hC dX17_write_1 rfl (lv_at hl 1 rfl) ?_
  obtain ⟨⟨ci0, fs0, hci0, hM0⟩, hw⟩ := hw
  obtain ⟨k19, n20, hk1, hn1, hw⟩ := hw
  obtain ⟨C0, T0, N0, ty0, hc0, hsel0⟩ : ∃ (C0 : String) (T0 : u_T) (N0 : Nat) (ty0 : Nat → FieldType), zCls ci0 C0 T0 N0 ty0 ∧ Cond.selects C0 ⟨"PluralBranches$Joined", "thing", "(LPluralBranches$Sheet;)LPluralBranches$Thing;"⟩ yX16_thing ∈ lw_all := (zal ⟨_, _, _, _, zc15, q1458⟩ (za0) : ∀ ci ∈ [15], ∃ (C0 : String) (T0 : u_T) (N0 : Nat) (ty0 : Nat → FieldType), zCls ci C0 T0 N0 ty0 ∧ Cond.selects C0 ⟨"PluralBranches$Joined", "thing", "(LPluralBranches$Sheet;)LPluralBranches$Thing;"⟩ yX16_thing ∈ lw_all) ci0 hci0
  refine z_callR hZ (vx_runU (As := [va_rf a0]) (rest := []) hC.fix (w_X16_thing hlt hw) (va_cwU (owner := "PluralBranches$Plain") (x := ⟨"PluralBranches$Joined", "thing", "(LPluralBranches$Sheet;)LPluralBranches$Thing;"⟩) 1 hts (lw_app (zal q1456 (zal q1457 (zal hsel0 (zal q1410 (zal q95 za0))))) (lw_meth q1411)) rfl rfl rfl rfl (by decide +kernel) ⟨Nat.le_of_ble_eq_true rfl, Nat.le_of_ble_eq_true rfl⟩) (z_preV hC hZ hM0 hc0) rfl rfl hl.1 rfl (lv_room (Nat.zero_le _)) dX17_write_2 ⟨(show cells + k19 ≤ k by omega), (show slots + n20 ≤ n by omega)⟩) (fun r18 M H locs hw1 hZ => ?_) (fun q M H locs ci fs E T9 N9 hw1 hZ hc1 hM1 hb1 => ?_)
  · replace hw := hw1
    clear hw1
    have hk : cells + k19 + (k - k19) ≤ k := by omega
    have hn : slots + n20 + (n - n20) ≤ n := by omega
    generalize cells + k19 = cells at hk ⊢
    generalize slots + n20 = slots at hn ⊢
    clear hk1 hn1
    rcases hw with ⟨w0, fs0, hr0, hM0, hw⟩ | ⟨hc0, hw⟩
    · refine z_instYO (r := r18) hC hZ hr0 hM0 zc24 q1459 rfl dX17_write_5 ?_
      refine lv_bipush (v := (-20)) hx hb dX17_write_8 (by decide) ?_
      refine lv_aload_n hx hb dX17_write_10 rfl (lv_at hl 0 rfl) ?_
      obtain ⟨fs0, g21, hM0, hx0, hw⟩ := hw
      refine z_get hC hZ hM0 zc15 0 (by decide) q736 (u_same (hts _ q737)) hx0 dX17_write_11 ?_
      refine lv_isub hx hb dX17_write_14 ?_
      obtain ⟨k23, n24, hk1, hn1, hw⟩ := hw
      refine z_callU hZ (vx_runSN (As := [.int (1 : Int32), .int ((-20 : Int32) - g21)]) (rest := []) hC.fix (w_X0_need hlt hw) ⟨va_cnB 2 hts (lw_meth q1003) rfl rfl rfl (hC.nw q1460 rfl) (hts _ q67) dd_X0_need ⟨Nat.le_of_ble_eq_true rfl, Nat.le_of_ble_eq_true rfl⟩, hts _ q1002, trivial⟩ (z_preS hC hZ) rfl rfl hl.1 rfl (lv_room (Nat.zero_le _)) dX17_write_15 ⟨(show cells + k23 ≤ k by omega), (show slots + n24 ≤ n by omega)⟩) (fun r22 M H locs hw1 hZ => ?_) (fun q M H locs ci fs E T9 N9 hw1 hZ hc1 hM1 hb1 => ?_)
      · replace hw := hw1
        clear hw1
        have hk : cells + k23 + ((k - k19) - k23) ≤ k := by omega
        have hn : slots + n24 + ((n - n20) - n24) ≤ n := by omega
        generalize cells + k23 = cells at hk ⊢
        generalize slots + n24 = slots at hn ⊢
        clear hk1 hn1
        refine lv_aload_n hx hb dX17_write_18 rfl (lv_at hl 0 rfl) ?_
        refine z_aload_n hC dX17_write_19 rfl (lv_at hl 1 rfl) ?_
        obtain ⟨fs0, hM0, hw⟩ := hw
        obtain ⟨k26, n27, hk1, hn1, hw⟩ := hw
        refine z_callU hZ (vx_runSU (As := [va_rf a0]) (rest := []) (hC.vK.1 15 _ zc15.1).2 hC.fix (w_X16_write hlt hw) (va_cwSU 1 hts (lw_app (zal q1461 (zal q2258 (zal q762 (zal q1462 (zal q95 za0))))) (lw_meth q1463)) rfl rfl rfl (by decide +kernel) ⟨Nat.le_of_ble_eq_true rfl, Nat.le_of_ble_eq_true rfl⟩) (z_preV hC hZ hM0 zc15) rfl rfl hl.1 rfl (lv_room (Nat.zero_le _)) dX17_write_20 ⟨(show cells + k26 ≤ k by omega), (show slots + n27 ≤ n by omega)⟩) (fun r25 M H locs hw1 hZ => ?_) (fun q M H locs ci fs E T9 N9 hw1 hZ hc1 hM1 hb1 => ?_)
        · replace hw := hw1
          clear hw1
          have hk : cells + k26 + (((k - k19) - k23) - k26) ≤ k := by omega
          have hn : slots + n27 + (((n - n20) - n24) - n27) ≤ n := by omega
          generalize cells + k26 = cells at hk ⊢
          generalize slots + n27 = slots at hn ⊢
          clear hk1 hn1
          exact z_vret hG hZ (by omega) (by omega) hw dX17_write_23
        · replace hw := hw1
          clear hw1
          exact z_out hG hZ hM1 hb1 hc1 za0 (by omega) (by omega) hw
      · replace hw := hw1
        clear hw1
        exact z_out hG hZ hM1 hb1 hc1 za0 (by omega) (by omega) hw
    · refine z_instNO (r := r18) hC hZ hc0 (zal ⟨_, _, _, _, zc22, by decide⟩ (zal ⟨_, _, _, _, zc23, by decide⟩ (za0))) q1459 dX17_write_5 ?_
      refine lv_bipush (v := (-20)) hx hb dX17_write_8 (by decide) ?_
      refine lv_aload_n hx hb dX17_write_10 rfl (lv_at hl 0 rfl) ?_
      obtain ⟨fs0, g28, hM0, hx0, hw⟩ := hw
      refine z_get hC hZ hM0 zc15 0 (by decide) q736 (u_same (hts _ q737)) hx0 dX17_write_11 ?_
      refine lv_isub hx hb dX17_write_14 ?_
      obtain ⟨k30, n31, hk1, hn1, hw⟩ := hw
      refine z_callU hZ (vx_runSN (As := [.int (0 : Int32), .int ((-20 : Int32) - g28)]) (rest := []) hC.fix (w_X0_need hlt hw) ⟨va_cnB 2 hts (lw_meth q1003) rfl rfl rfl (hC.nw q1460 rfl) (hts _ q67) dd_X0_need ⟨Nat.le_of_ble_eq_true rfl, Nat.le_of_ble_eq_true rfl⟩, hts _ q1002, trivial⟩ (z_preS hC hZ) rfl rfl hl.1 rfl (lv_room (Nat.zero_le _)) dX17_write_15 ⟨(show cells + k30 ≤ k by omega), (show slots + n31 ≤ n by omega)⟩) (fun r29 M H locs hw1 hZ => ?_) (fun q M H locs ci fs E T9 N9 hw1 hZ hc1 hM1 hb1 => ?_)
      · replace hw := hw1
        clear hw1
        have hk : cells + k30 + ((k - k19) - k30) ≤ k := by omega
        have hn : slots + n31 + ((n - n20) - n31) ≤ n := by omega
        generalize cells + k30 = cells at hk ⊢
        generalize slots + n31 = slots at hn ⊢
        clear hk1 hn1
        refine lv_aload_n hx hb dX17_write_18 rfl (lv_at hl 0 rfl) ?_
        refine z_aload_n hC dX17_write_19 rfl (lv_at hl 1 rfl) ?_
        obtain ⟨fs0, hM0, hw⟩ := hw
        obtain ⟨k33, n34, hk1, hn1, hw⟩ := hw
        refine z_callU hZ (vx_runSU (As := [va_rf a0]) (rest := []) (hC.vK.1 15 _ zc15.1).2 hC.fix (w_X16_write hlt hw) (va_cwSU 1 hts (lw_app (zal q1461 (zal q2258 (zal q762 (zal q1462 (zal q95 za0))))) (lw_meth q1463)) rfl rfl rfl (by decide +kernel) ⟨Nat.le_of_ble_eq_true rfl, Nat.le_of_ble_eq_true rfl⟩) (z_preV hC hZ hM0 zc15) rfl rfl hl.1 rfl (lv_room (Nat.zero_le _)) dX17_write_20 ⟨(show cells + k33 ≤ k by omega), (show slots + n34 ≤ n by omega)⟩) (fun r32 M H locs hw1 hZ => ?_) (fun q M H locs ci fs E T9 N9 hw1 hZ hc1 hM1 hb1 => ?_)
        · replace hw := hw1
          clear hw1
          have hk : cells + k33 + (((k - k19) - k30) - k33) ≤ k := by omega
          have hn : slots + n34 + (((n - n20) - n31) - n34) ≤ n := by omega
          generalize cells + k33 = cells at hk ⊢
          generalize slots + n34 = slots at hn ⊢
          clear hk1 hn1
          exact z_vret hG hZ (by omega) (by omega) hw dX17_write_23
        · replace hw := hw1
          clear hw1
          exact z_out hG hZ hM1 hb1 hc1 za0 (by omega) (by omega) hw
      · replace hw := hw1
        clear hw1
        exact z_out hG hZ hM1 hb1 hc1 za0 (by omega) (by omega) hw
  · replace hw := hw1
    clear hw1
    exact z_out hG hZ hM1 hb1 hc1 za0 (by omega) (by omega) hw
abbrev rm_X18_write (K N : Nat) : Room := { frames := 7, cells := K, slots := N, locals := 199 }
def wp_X18_write_L18 (D : zD) (post : Unit → zM → Prop) (xp : Nat → zM → Prop) (o : Nat) (k : Nat) (n : Nat) (x1 : Option Nat) (y0 : Option Nat) (y1 : Option Nat) (M : zM) : Prop :=
    ((zd y0 fun b1 => (zis M b1 [17] ∧ wp_X19_write D (fun _ M => post () M) b1 y1 x1 M)))
set_option maxHeartbeats 4000000 in
set_option maxRecDepth 100000 in
theorem wk_X18_write_L18 {p : Program} {l : Launch} {e : Env} {s : State} {m : MethodId} {args : Array Value} {below : List Frame} {meth : Method} {c : Code} {D : zD} {post : Unit → zM → Prop} {xp : Nat → zM → Prop} {K N : Nat} {o : Nat} (hG : zGx p l s m args meth c cX18_write 2 "PluralBranches$Shaped" D (none) "write" []) : ∀ {H : Heap} {locs : List Loc} {cells slots : Nat} {ls : Array Slot} (k : Nat) (n : Nat) (x1 : Option Nat) (y0 : Option Nat) (y1 : Option Nat) (M : zM), cells + k ≤ K → slots + n ≤ N → zS D M H locs → lv_has ls 2 [(1, va_rf x1)] → wp_X18_write_L18 D post xp o k n x1 y0 y1 M → W p l e (rm_X18_write K N) s m args below meth c H locs cells slots (vx_MQ below (zQ D zU post) (zX D xp) args s K N (zA D)) (F0 m 18 ls [va_rf y1, va_rf y0]) := by
  have hC := hG.1
  have hx := hC.x
  have hb := hC.b
  have hown := hC.o
  have hts := hC.ts
  have hlt := hG.2.2.2.2.2
  intro H locs cells slots ls k n x1 y0 y1 M hk hn hZ hl hw
  refine z_aload_n hC dX18_write_18 rfl (lv_at hl 0 rfl) ?_
  obtain ⟨b5, hr0, hw⟩ := hw
  subst hr0
  obtain ⟨⟨ci0, fs0, hci0, hM0⟩, hw⟩ := hw
  obtain rfl : ci0 = 17 := List.mem_singleton.mp hci0
  refine z_callU hZ (vx_runV (As := [va_rf y1, va_rf x1]) (rest := []) hC.fix (w_X19_write hlt hw) (cwV 2 hts (lw_V q1557 q1558 q1559 q98 q1560) rfl rfl rfl ⟨rfl, dd_X19_write⟩ ⟨Nat.le_of_ble_eq_true rfl, Nat.le_of_ble_eq_true rfl⟩) (z_preV hC hZ hM0 zc17) rfl rfl hl.1 rfl (lv_room (Nat.zero_le _)) dX18_write_19 ⟨(show cells + 0 ≤ K by omega), (show slots + 0 ≤ N by omega)⟩) (fun r6 M H locs hw1 hZ => ?_) (fun q M H locs ci fs E T9 N9 hw hZ hc1 hM1 hb1 => False.elim hw)
  replace hw := hw1
  clear hw1
  refine W.cs (cells' := cells) (slots' := slots) rfl rfl ?_
  exact z_vret hG hZ (by omega) (by omega) hw dX18_write_22
def wp_X18_write (D : zD) (post : Unit → zM → Prop) (xp : Nat → zM → Prop) (k : Nat) (n : Nat) (o : Nat) (a0 : Option Nat) (M : zM) : Prop :=
    (zgR M o 16 1 fun g9 => ((zis M o [16] ∧ (∃ k11 n12, k11 ≤ k ∧ n12 ≤ n ∧ wp_X16_thing D (fun r10 M => (zgI M o 16 0 fun g13 => ((zd r10 fun b14 => ((zis M b14 [22] ∧ wp_X25_decimal D (fun r15 M => wp_X18_write_L18 D post xp o (k - k11) (n - n12) a0 g9 r15 M) b14 g13 M) ∨ (zis M b14 [23, 24] ∧ (∃ k19 n20, k19 ≤ (k - k11) ∧ n20 ≤ (n - n12) ∧ wp_X29_decimal D (fun r18 M => wp_X18_write_L18 D post xp o ((k - k11) - k19) ((n - n12) - n20) a0 g9 r18 M) xp k19 n20 b14 g13 M))))))) xp k11 n12 o a0 M))))
set_option maxHeartbeats 4000000 in
set_option maxRecDepth 100000 in
theorem w_X18_write {l : Launch} {D : zD} {post : Unit → zM → Prop} {xp : Nat → zM → Prop} (hlt : l.stackTraces = false) {k : Nat} {n : Nat} {o : Nat} {a0 : Option Nat} {M : zM} (hw : wp_X18_write D post xp k n o a0 M) : zMet l D yX18_write (ws_ yX18_write cX18_write 2 (none)) (rm_X18_write k n) k n [.ref o, va_rf a0] M zU post xp := by
  unfold wp_X18_write at hw
  have hlv : lv_args 0 [.ref o, va_rf a0] = [(0, .ref o), (1, va_rf a0)] := (zargs1 rfl (zargs1 (zcat _) rfl))
  refine z_ofW hlt (by decide) (Nat.le_trans (zsl1 rfl (zsl1 (zcat _) (Nat.le_refl 0 : (lg_sl []).length ≤ 0))) (Nat.le_of_ble_eq_true rfl)) hlv ?_
  intro p e s m args below meth c ls hG hZ hl
  have hC := hG.1
  have hx := hC.x
  have hb := hC.b
  have hown := hC.o
  have hts := hC.ts
  have hlt := hG.2.2.2.2.2
  obtain ⟨cells, hce⟩ : ∃ z : Nat, z = 0 := ⟨0, rfl⟩
  obtain ⟨slots, hsl⟩ : ∃ z : Nat, z = 0 := ⟨0, rfl⟩
  refine W.cs (cells' := cells) (slots' := slots) hce.symm hsl.symm ?_
  have hk : cells + k ≤ k := by omega
  have hn : slots + n ≤ n := by omega
  clear hce hsl
  refine lv_aload_n hx hb dX18_write_0 rfl (lv_at hl 0 rfl) ?_
  obtain ⟨fs0, g21, hM0, hx0, hw⟩ := hw
  refine z_get hC hZ hM0 zc16 1 (by decide) q800 (fun _ h9 => h9) hx0 dX18_write_1 ?_
  refine lv_aload_n hx hb dX18_write_4 rfl (lv_at hl 0 rfl) ?_
  refine z_aload_n hC dX18_write_5 rfl (lv_at hl 1 rfl) ?_
  obtain ⟨⟨ci0, fs0, hci0, hM0⟩, hw⟩ := hw
  obtain ⟨k23, n24, hk1, hn1, hw⟩ := hw
  obtain ⟨C0, T0, N0, ty0, hc0, hsel0⟩ : ∃ (C0 : String) (T0 : u_T) (N0 : Nat) (ty0 : Nat → FieldType), zCls ci0 C0 T0 N0 ty0 ∧ Cond.selects C0 ⟨"PluralBranches$Shaped", "thing", "(LPluralBranches$Sheet;)LPluralBranches$Thing;"⟩ yX16_thing ∈ lw_all := (zal ⟨_, _, _, _, zc16, q1554⟩ (za0) : ∀ ci ∈ [16], ∃ (C0 : String) (T0 : u_T) (N0 : Nat) (ty0 : Nat → FieldType), zCls ci C0 T0 N0 ty0 ∧ Cond.selects C0 ⟨"PluralBranches$Shaped", "thing", "(LPluralBranches$Sheet;)LPluralBranches$Thing;"⟩ yX16_thing ∈ lw_all) ci0 hci0
  refine z_callR hZ (vx_runU (As := [va_rf a0]) (rest := [va_rf g21]) hC.fix (w_X16_thing hlt hw) (va_cwU (owner := "PluralBranches$Plain") (x := ⟨"PluralBranches$Shaped", "thing", "(LPluralBranches$Sheet;)LPluralBranches$Thing;"⟩) 1 hts (lw_app (zal q1552 (zal q1553 (zal hsel0 (zal q1410 (zal q95 za0))))) (lw_meth q1411)) rfl rfl rfl rfl (by decide +kernel) ⟨Nat.le_of_ble_eq_true rfl, Nat.le_of_ble_eq_true rfl⟩) (z_preV hC hZ hM0 hc0) rfl rfl hl.1 rfl (lv_room (Nat.le_trans (zrm1 (zcat _) zrm0) (Nat.le_of_ble_eq_true rfl))) dX18_write_6 ⟨(show cells + k23 ≤ k by omega), (show slots + n24 ≤ n by omega)⟩) (fun r22 M H locs hw1 hZ => ?_) (fun q M H locs ci fs E T9 N9 hw1 hZ hc1 hM1 hb1 => ?_)
  · replace hw := hw1
    clear hw1
    have hk : cells + k23 + (k - k23) ≤ k := by omega
    have hn : slots + n24 + (n - n24) ≤ n := by omega
    generalize cells + k23 = cells at hk ⊢
    generalize slots + n24 = slots at hn ⊢
    clear hk1 hn1
    refine lv_aload_n hx hb dX18_write_9 rfl (lv_at hl 0 rfl) ?_
    obtain ⟨fs0, g25, hM0, hx0, hw⟩ := hw
    refine z_get hC hZ hM0 zc16 0 (by decide) q734 (u_same (hts _ q735)) hx0 dX18_write_10 ?_
    obtain ⟨b26, hr0, hw⟩ := hw
    subst hr0
    rcases hw with hw | hw
    · obtain ⟨⟨ci0, fs0, hci0, hM0⟩, hw⟩ := hw
      obtain ⟨C0, T0, N0, ty0, hc0, hsel0, hf0⟩ : ∃ (C0 : String) (T0 : u_T) (N0 : Nat) (ty0 : Nat → FieldType), zCls ci0 C0 T0 N0 ty0 ∧ Cond.selects C0 ⟨"PluralBranches$Thing", "decimal", "(I)LPluralBranches$Decimal;"⟩ yX25_decimal ∈ lw_all ∧ (C0, ⟨"PluralBranches$Thing", "decimal", "(I)LPluralBranches$Decimal;"⟩, yX25_decimal) ∈ zFs := (zal ⟨_, _, _, _, zc22, q1327, List.mem_of_getElem? (i := 8) rfl⟩ (za0) : ∀ ci ∈ [22], ∃ (C0 : String) (T0 : u_T) (N0 : Nat) (ty0 : Nat → FieldType), zCls ci C0 T0 N0 ty0 ∧ Cond.selects C0 ⟨"PluralBranches$Thing", "decimal", "(I)LPluralBranches$Decimal;"⟩ yX25_decimal ∈ lw_all ∧ (C0, ⟨"PluralBranches$Thing", "decimal", "(I)LPluralBranches$Decimal;"⟩, yX25_decimal) ∈ zFs) ci0 hci0
      refine z_callR5 hZ (vx_runF (As := [.int g25]) (rest := [va_rf g21]) (hC.vK.1 _ _ hc0.1).2 hC.fix (w_X25_decimal hlt hw) (va_cwF 1 hts (lw_app (zal q1556 (zal hsel0 (zal q1329 (zal q109 za0)))) (lw_meth q1331)) rfl rfl rfl (hC.K.2.2.2.1 _ hf0) (by decide +kernel) ⟨Nat.le_of_ble_eq_true rfl, Nat.le_of_ble_eq_true rfl⟩) (z_preV hC hZ hM0 hc0) rfl rfl hl.1 rfl (lv_room (Nat.le_trans (zrm1 (zcat _) zrm0) (Nat.le_of_ble_eq_true rfl))) dX18_write_13 ⟨(show cells + 0 ≤ k by omega), (show slots + 0 ≤ n by omega)⟩) (fun r27 M H locs hw1 hZ => ?_) (fun q M H locs ci fs E T9 N9 hw hZ hc1 hM1 hb1 => False.elim hw)
      replace hw := hw1
      clear hw1
      refine W.cs (cells' := cells) (slots' := slots) rfl rfl ?_
      exact wk_X18_write_L18 hG _ _ _ _ _ _ hk hn hZ (lv_sub hl [1] rfl) hw
    · obtain ⟨⟨ci0, fs0, hci0, hM0⟩, hw⟩ := hw
      obtain ⟨k31, n32, hk1, hn1, hw⟩ := hw
      obtain ⟨C0, T0, N0, ty0, hc0, hin0⟩ : ∃ (C0 : String) (T0 : u_T) (N0 : Nat) (ty0 : Nat → FieldType), zCls ci0 C0 T0 N0 ty0 ∧ C0 ∈ ["PluralBranches$Gendered", "PluralBranches$Listed"] := (zal ⟨_, _, _, _, zc23, by decide⟩ (zal ⟨_, _, _, _, zc24, by decide⟩ (za0)) : ∀ ci ∈ [23, 24], ∃ (C0 : String) (T0 : u_T) (N0 : Nat) (ty0 : Nat → FieldType), zCls ci C0 T0 N0 ty0 ∧ C0 ∈ ["PluralBranches$Gendered", "PluralBranches$Listed"]) ci0 hci0
      refine z_callR5 hZ (z_runDef (As := [.int g25]) (rest := [va_rf g21]) hC hin0 (w_X29_decimal hlt hw) (hC.vK.1 _ _ hc0.1).2 q1556 ⟨Nat.le_of_ble_eq_true rfl, Nat.le_of_ble_eq_true rfl⟩ q1321 q2266 (lw_meth q1323) (z_preV hC hZ hM0 hc0) rfl rfl rfl rfl hl.1 rfl (lv_room (Nat.le_trans (zrm1 (zcat _) zrm0) (Nat.le_of_ble_eq_true rfl))) dX18_write_13 ⟨(show cells + k31 ≤ k by omega), (show slots + n32 ≤ n by omega)⟩) (fun r30 M H locs hw1 hZ => ?_) (fun q M H locs ci fs E T9 N9 hw1 hZ hc1 hM1 hb1 => ?_)
      · replace hw := hw1
        clear hw1
        have hk : cells + k31 + ((k - k23) - k31) ≤ k := by omega
        have hn : slots + n32 + ((n - n24) - n32) ≤ n := by omega
        generalize cells + k31 = cells at hk ⊢
        generalize slots + n32 = slots at hn ⊢
        clear hk1 hn1
        exact wk_X18_write_L18 hG _ _ _ _ _ _ hk hn hZ (lv_sub hl [1] rfl) hw
      · replace hw := hw1
        clear hw1
        exact z_out hG hZ hM1 hb1 hc1 za0 (by omega) (by omega) hw
  · replace hw := hw1
    clear hw1
    exact z_out hG hZ hM1 hb1 hc1 za0 (by omega) (by omega) hw
abbrev rm_X21_write (d : Nat) (K N : Nat) : Room := { frames := 10 + 2 * d, cells := K, slots := N, locals := 263 + 46 * d }
abbrev rm_X22_write (d : Nat) (K N : Nat) : Room := { frames := 10 + 2 * d, cells := K, slots := N, locals := 263 + 46 * d }
abbrev rm_X12_write (d : Nat) (K N : Nat) : Room := { frames := 9 + 2 * d, cells := K, slots := N, locals := 241 + 46 * d }
def wp_X21_write_L59 (D : zD) (P : (Unit → zM → Prop) → (Nat → zM → Prop) → Nat → Nat → Nat → Option Nat → zM → Prop) (post : Unit → zM → Prop) (xp : Nat → zM → Prop) (o : Nat) (k : Nat) (n : Nat) (x1 : Option Nat) (x3 : Option Nat) (y0 : Option Nat) (M : zM) : Prop :=
    ((zd x1 fun b1 => zp D M b1 25 4 (va_rf x3) fun M => ((zd y0 fun b2 => zth D M b2 ∧ xp b2 M))))
set_option maxHeartbeats 4000000 in
set_option maxRecDepth 100000 in
theorem wk_X21_write_L59 {p : Program} {l : Launch} {e : Env} {s : State} {m : MethodId} {args : Array Value} {below : List Frame} {meth : Method} {c : Code} {D : zD} {P : (Unit → zM → Prop) → (Nat → zM → Prop) → Nat → Nat → Nat → Option Nat → zM → Prop} {post : Unit → zM → Prop} {xp : Nat → zM → Prop} {K N : Nat} {d : Nat} {o : Nat} (hG : zGx p l s m args meth c cX21_write 5 "PluralBranches$Plural" D (none) "write" (tableOf [(25, 51, 59, 0), (59, 61, 59, 0)])) (hP : ∀ (post : Unit → zM → Prop) (xp : Nat → zM → Prop) (k n : Nat) (o : Nat) (a0 : Option Nat) (M : zM), P post xp k n o a0 M → zMet l D yX12_write (ws_ yX12_write cX12_write 3 (none)) (rm_X12_write d k n) k n [.ref o, va_rf a0] M zU post xp) : ∀ {H : Heap} {locs : List Loc} {cells slots : Nat} {ls : Array Slot} (k : Nat) (n : Nat) (x1 : Option Nat) (x3 : Option Nat) (y0 : Option Nat) (M : zM), cells + k ≤ K → slots + n ≤ N → zS D M H locs → lv_has ls 5 [(1, va_rf x1), (3, va_rf x3)] → wp_X21_write_L59 D P post xp o k n x1 x3 y0 M → W p l e (rm_X21_write d K N) s m args below meth c H locs cells slots (vx_MQ below (zQ D zU post) (zX D xp) args s K N (zA D)) (F0 m 59 ls [va_rf y0]) := by
  have hC := hG.1
  have hx := hC.x
  have hb := hC.b
  have hown := hC.o
  have hts := hC.ts
  have hlt := hG.2.2.2.2.2
  intro H locs cells slots ls k n x1 x3 y0 M hk hn hZ hl hw
  refine z_astore (i := 4) (lv' := [(4, va_rf y0), (1, va_rf x1), (3, va_rf x3)]) hC dX21_write_59 hl (by decide) (zfc rfl (zfk rfl (zfk (zfa rfl) rfl))) (fun ls hl1 => ?_)
  replace hl := hl1
  clear hl1
  refine z_aload_n hC dX21_write_61 rfl (lv_at hl 1 rfl) ?_
  refine z_aload_n hC dX21_write_62 rfl (lv_at hl 2 rfl) ?_
  obtain ⟨b4, hr0, hw⟩ := hw
  subst hr0
  obtain ⟨fs0, hM0, hb0, hk0, hw⟩ := hw
  refine z_putN hC hZ hM0 hb0 zc25 4 (by decide) q1382 (fun _ h9 => h9) (by decide) zrf_nar zrf_fit hk0 dX21_write_63 (fun H locs hZ => ?_)
  generalize zu M _ _ = M at hw hZ
  refine z_aload hC dX21_write_66 (lv_at hl 0 rfl) ?_
  obtain ⟨b5, hr0, hw⟩ := hw
  subst hr0
  obtain ⟨⟨ci0, fs0, hci0, hM0, hb0⟩, hw⟩ := hw
  obtain ⟨E0, T0, N0, hc0⟩ := z_cl hci0
  refine vx_athrow hx hb dX21_write_68 ?_
  exact z_out hG hZ hM0 hb0 hc0 (by decide) (by omega) (by omega) hw
def wp_X21_write_L14 (D : zD) (P : (Unit → zM → Prop) → (Nat → zM → Prop) → Nat → Nat → Nat → Option Nat → zM → Prop) (post : Unit → zM → Prop) (xp : Nat → zM → Prop) (o : Nat) (k : Nat) (n : Nat) (x1 : Option Nat) (y0 : Option Nat) (M : zM) : Prop :=
    ((zd x1 fun b7 => zgR M b7 25 4 fun g8 => (zp D M b7 25 4 (va_rf y0) fun M => (zgR M o 18 0 fun g9 => (zgR M b7 25 2 fun g10 => ((zis M o [18] ∧ wp_X21_comesTo D (fun r11 M => ((zd g9 fun b14 => (zis M b14 [26] ∧ wp_J3_get D (fun r15 M => ((∀ w, r15 = some w → zis M w [20]) ∧ ((zd r15 fun b18 => zgR M b18 20 1 fun g19 => ((zd g19 fun b20 => (zis M b20 [11] ∧ (∃ k22 n23, k22 ≤ k ∧ n23 ≤ n ∧ P (fun _ M => (zp D M b7 25 4 (va_rf g8) fun M => post () M)) (fun q M => wp_X21_write_L59 D P post xp o (k - k22) (n - n23) (some b7) g8 (some q) M) k22 n23 b20 (some b7) M)))))))) b14 r11 M)))) o g10 y0 M)))))))
set_option maxHeartbeats 4000000 in
set_option maxRecDepth 100000 in
theorem wk_X21_write_L14 {p : Program} {l : Launch} {e : Env} {s : State} {m : MethodId} {args : Array Value} {below : List Frame} {meth : Method} {c : Code} {D : zD} {P : (Unit → zM → Prop) → (Nat → zM → Prop) → Nat → Nat → Nat → Option Nat → zM → Prop} {post : Unit → zM → Prop} {xp : Nat → zM → Prop} {K N : Nat} {d : Nat} {o : Nat} (hG : zGx p l s m args meth c cX21_write 5 "PluralBranches$Plural" D (none) "write" (tableOf [(25, 51, 59, 0), (59, 61, 59, 0)])) (hP : ∀ (post : Unit → zM → Prop) (xp : Nat → zM → Prop) (k n : Nat) (o : Nat) (a0 : Option Nat) (M : zM), P post xp k n o a0 M → zMet l D yX12_write (ws_ yX12_write cX12_write 3 (none)) (rm_X12_write d k n) k n [.ref o, va_rf a0] M zU post xp) : ∀ {H : Heap} {locs : List Loc} {cells slots : Nat} {ls : Array Slot} (k : Nat) (n : Nat) (x1 : Option Nat) (y0 : Option Nat) (M : zM), cells + k ≤ K → slots + n ≤ N → zS D M H locs → lv_has ls 5 [(0, .ref o), (1, va_rf x1)] → wp_X21_write_L14 D P post xp o k n x1 y0 M → W p l e (rm_X21_write d K N) s m args below meth c H locs cells slots (vx_MQ below (zQ D zU post) (zX D xp) args s K N (zA D)) (F0 m 14 ls [va_rf y0]) := by
  have hC := hG.1
  have hx := hC.x
  have hb := hC.b
  have hown := hC.o
  have hts := hC.ts
  have hlt := hG.2.2.2.2.2
  intro H locs cells slots ls k n x1 y0 M hk hn hZ hl hw
  refine z_astore_n (i := 2) (lv' := [(2, va_rf y0), (0, .ref o), (1, va_rf x1)]) hC dX21_write_14 rfl hl (by decide) (zfc rfl (zfk rfl (zfk (zfa rfl) rfl))) (fun ls hl1 => ?_)
  replace hl := hl1
  clear hl1
  refine z_aload_n hC dX21_write_15 rfl (lv_at hl 2 rfl) ?_
  obtain ⟨b26, hr0, hw⟩ := hw
  subst hr0
  obtain ⟨fs0, g27, hM0, hx0, hw⟩ := hw
  refine z_getN hC hZ hM0 zc25 4 (by decide) q1382 (fun _ h9 => h9) hx0 dX21_write_16 ?_
  refine z_astore_n (i := 3) (lv' := [(3, va_rf g27), (2, va_rf y0), (0, .ref o), (1, .ref b26)]) hC dX21_write_19 rfl hl (by decide) (zfc rfl (zfk (zfa rfl) (zfk rfl (zfk rfl rfl)))) (fun ls hl1 => ?_)
  replace hl := hl1
  clear hl1
  refine lv_aload_n hx hb dX21_write_20 rfl (lv_at hl 3 rfl) ?_
  refine z_aload_n hC dX21_write_21 rfl (lv_at hl 1 rfl) ?_
  obtain ⟨fs0, hM0, hb0, hk0, hw⟩ := hw
  refine z_putN hC hZ hM0 hb0 zc25 4 (by decide) q1382 (fun _ h9 => h9) (by decide) zrf_nar zrf_fit hk0 dX21_write_22 (fun H locs hZ => ?_)
  generalize zu M _ _ = M at hw hZ
  refine lv_aload_n hx hb dX21_write_25 rfl (lv_at hl 2 rfl) ?_
  obtain ⟨fs0, g28, hM0, hx0, hw⟩ := hw
  refine z_get hC hZ hM0 zc18 0 (by decide) q824 (u_same (hts _ q825)) hx0 dX21_write_26 ?_
  refine lv_aload_n hx hb dX21_write_29 rfl (lv_at hl 2 rfl) ?_
  refine lv_aload_n hx hb dX21_write_30 rfl (lv_at hl 3 rfl) ?_
  obtain ⟨fs0, g29, hM0, hx0, hw⟩ := hw
  refine z_getN hC hZ hM0 zc25 2 (by decide) q1378 (fun _ h9 => h9) hx0 dX21_write_31 ?_
  refine z_aload_n hC dX21_write_34 rfl (lv_at hl 1 rfl) ?_
  obtain ⟨⟨ci0, fs0, hci0, hM0⟩, hw⟩ := hw
  obtain rfl : ci0 = 18 := List.mem_singleton.mp hci0
  refine z_callI hZ (vx_runV (As := [va_rf g29, va_rf y0]) (rest := [va_rf g28]) hC.fix (w_X21_comesTo hlt hw) (cwV 2 hts (lw_V q1547 q1148 q1149 q100 q1150) rfl rfl rfl ⟨rfl, dd_X21_comesTo⟩ ⟨(show 6 + 1 ≤ 10 + 2 * d by omega), (show 8 + (5 + 11) + (176) ≤ 263 + 46 * d by omega)⟩) (z_preV hC hZ hM0 zc18) rfl rfl hl.1 rfl (lv_room (Nat.le_trans (zrm1 (zcat _) zrm0) (Nat.le_of_ble_eq_true rfl))) dX21_write_35 ⟨(show cells + 0 ≤ K by omega), (show slots + 0 ≤ N by omega)⟩) (fun r30 M H locs hw1 hZ => ?_) (fun q M H locs ci fs E T9 N9 hw hZ hc1 hM1 hb1 => False.elim hw)
  replace hw := hw1
  clear hw1
  refine W.cs (cells' := cells) (slots' := slots) rfl rfl ?_
  obtain ⟨b33, hr0, hw⟩ := hw
  subst hr0
  obtain ⟨⟨ci0, fs0, hci0, hM0⟩, hw⟩ := hw
  obtain rfl : ci0 = 26 := List.mem_singleton.mp hci0
  refine z_callR hZ (vx_runV (As := [.int r30]) (rest := []) hC.fix (w_J3_get hlt hw) (cwV 1 hts (lw_V q1140 q468 q469 q74 q470) rfl rfl rfl ⟨rfl, dd_J3_get⟩ ⟨(show 3 + 1 ≤ 10 + 2 * d by omega), (show 8 + (2 + 11) + (107) ≤ 263 + 46 * d by omega)⟩) (z_preV hC hZ hM0 zc26) rfl rfl hl.1 rfl (lv_room (Nat.zero_le _)) dX21_write_38 ⟨(show cells + 0 ≤ K by omega), (show slots + 0 ≤ N by omega)⟩) (fun r34 M H locs hw1 hZ => ?_) (fun q M H locs ci fs E T9 N9 hw hZ hc1 hM1 hb1 => False.elim hw)
  replace hw := hw1
  clear hw1
  refine W.cs (cells' := cells) (slots' := slots) rfl rfl ?_
  obtain ⟨hc0, hw⟩ := hw
  refine z_castO (r := r34) hC hZ hc0 (zal ⟨_, _, _, _, zc20, (Or.inl rfl)⟩ (za0)) q1141 dX21_write_41 ?_
  obtain ⟨b37, hr0, hw⟩ := hw
  subst hr0
  obtain ⟨fs0, g38, hM0, hx0, hw⟩ := hw
  refine z_getN hC hZ hM0 zc20 1 (by decide) q975 (fun _ h9 => h9) hx0 dX21_write_44 ?_
  refine lv_aload_n hx hb dX21_write_47 rfl (lv_at hl 3 rfl) ?_
  obtain ⟨b39, hr0, hw⟩ := hw
  subst hr0
  obtain ⟨⟨ci0, fs0, hci0, hM0⟩, hw⟩ := hw
  obtain ⟨k41, n42, hk1, hn1, hw⟩ := hw
  obtain rfl : ci0 = 11 := List.mem_singleton.mp hci0
  refine z_callU hZ (vx_runV (As := [.ref b26]) (rest := []) hC.fix (hP _ _ _ _ _ _ _ hw) (cwV 1 hts (lw_V q1548 q1395 q1396 q88 q1397) rfl rfl rfl ⟨rfl, dd_X12_write⟩ ⟨(show 9 + 2 * d + 1 ≤ 10 + 2 * d by omega), (show 8 + (3 + 11) + (241 + 46 * d) ≤ 263 + 46 * d by omega)⟩) (z_preV hC hZ hM0 zc11) rfl rfl hl.1 rfl (lv_room (Nat.zero_le _)) dX21_write_48 ⟨(show cells + k41 ≤ K by omega), (show slots + n42 ≤ N by omega)⟩) (fun r40 M H locs hw1 hZ => ?_) (fun q M H locs ci fs E T9 N9 hw1 hZ hc1 hM1 hb1 => ?_)
  · replace hw := hw1
    clear hw1
    have hk : cells + k41 + (k - k41) ≤ K := by omega
    have hn : slots + n42 + (n - n42) ≤ N := by omega
    generalize cells + k41 = cells at hk ⊢
    generalize slots + n42 = slots at hn ⊢
    clear hk1 hn1
    refine lv_aload_n hx hb dX21_write_51 rfl (lv_at hl 3 rfl) ?_
    refine z_aload_n hC dX21_write_52 rfl (lv_at hl 0 rfl) ?_
    obtain ⟨fs0, hM0, hb0, hk0, hw⟩ := hw
    refine z_putN hC hZ hM0 hb0 zc25 4 (by decide) q1382 (fun _ h9 => h9) (by decide) zrf_nar zrf_fit hk0 dX21_write_53 (fun H locs hZ => ?_)
    generalize zu M _ _ = M at hw hZ
    refine lv_goto (tgt := 69) hx hb dX21_write_56 (by decide) ?_
    exact z_vret hG hZ (by omega) (by omega) hw dX21_write_69
  · replace hw := hw1
    clear hw1
    have hk : cells + k41 + (k - k41) ≤ K := by omega
    have hn : slots + n42 + (n - n42) ≤ N := by omega
    generalize cells + k41 = cells at hk ⊢
    generalize slots + n42 = slots at hn ⊢
    clear hk1 hn1
    refine z_catchAny hG hZ hM1 hb1 hc1 (tableOf []) ⟨25, 51, 59, 0⟩ (tableOf [(59, 61, 59, 0)]) rfl (by decide) (by decide) rfl ?_
    exact wk_X21_write_L59 hG hP _ _ _ _ _ _ hk hn hZ (lv_sub hl [3, 0] rfl) hw
def wp_X21_write (D : zD) (P : (Unit → zM → Prop) → (Nat → zM → Prop) → Nat → Nat → Nat → Option Nat → zM → Prop) (post : Unit → zM → Prop) (xp : Nat → zM → Prop) (k : Nat) (n : Nat) (o : Nat) (a0 : Option Nat) (M : zM) : Prop :=
    ((zis M o [18] ∧ (∃ k46 n47, k46 ≤ k ∧ n47 ≤ n ∧ wp_X16_thing D (fun r45 M => (zgI M o 18 2 fun g48 => ((zd r45 fun b49 => ((zis M b49 [22] ∧ wp_X25_decimal D (fun r50 M => wp_X21_write_L14 D P post xp o (k - k46) (n - n47) a0 r50 M) b49 g48 M) ∨ (zis M b49 [23, 24] ∧ (∃ k54 n55, k54 ≤ (k - k46) ∧ n55 ≤ (n - n47) ∧ wp_X29_decimal D (fun r53 M => wp_X21_write_L14 D P post xp o ((k - k46) - k54) ((n - n47) - n55) a0 r53 M) xp k54 n55 b49 g48 M))))))) xp k46 n47 o a0 M)))
set_option maxHeartbeats 4000000 in
set_option maxRecDepth 100000 in
theorem w_X21_write {l : Launch} {D : zD} {post : Unit → zM → Prop} {xp : Nat → zM → Prop} {P : (Unit → zM → Prop) → (Nat → zM → Prop) → Nat → Nat → Nat → Option Nat → zM → Prop} {d : Nat} (hlt : l.stackTraces = false) (hP : ∀ (post : Unit → zM → Prop) (xp : Nat → zM → Prop) (k n : Nat) (o : Nat) (a0 : Option Nat) (M : zM), P post xp k n o a0 M → zMet l D yX12_write (ws_ yX12_write cX12_write 3 (none)) (rm_X12_write d k n) k n [.ref o, va_rf a0] M zU post xp) {k : Nat} {n : Nat} {o : Nat} {a0 : Option Nat} {M : zM} (hw : wp_X21_write D P post xp k n o a0 M) : zMet l D yX21_write (wsW_ yX21_write cX21_write 5 (none) [(25, 51, 59, 0), (59, 61, 59, 0)]) (rm_X21_write d k n) k n [.ref o, va_rf a0] M zU post xp := by
  unfold wp_X21_write at hw
  have hlv : lv_args 0 [.ref o, va_rf a0] = [(0, .ref o), (1, va_rf a0)] := (zargs1 rfl (zargs1 (zcat _) rfl))
  refine z_ofWH hlt (by decide) (Nat.le_trans (zsl1 rfl (zsl1 (zcat _) (Nat.le_refl 0 : (lg_sl []).length ≤ 0))) (Nat.le_of_ble_eq_true rfl)) hlv ?_
  intro p e s m args below meth c ls hG hZ hl
  have hC := hG.1
  have hx := hC.x
  have hb := hC.b
  have hown := hC.o
  have hts := hC.ts
  have hlt := hG.2.2.2.2.2
  obtain ⟨cells, hce⟩ : ∃ z : Nat, z = 0 := ⟨0, rfl⟩
  obtain ⟨slots, hsl⟩ : ∃ z : Nat, z = 0 := ⟨0, rfl⟩
  refine W.cs (cells' := cells) (slots' := slots) hce.symm hsl.symm ?_
  have hk : cells + k ≤ k := by omega
  have hn : slots + n ≤ n := by omega
  clear hce hsl
  refine lv_aload_n hx hb dX21_write_0 rfl (lv_at hl 0 rfl) ?_
  refine z_aload_n hC dX21_write_1 rfl (lv_at hl 1 rfl) ?_
  obtain ⟨⟨ci0, fs0, hci0, hM0⟩, hw⟩ := hw
  obtain ⟨k57, n58, hk1, hn1, hw⟩ := hw
  obtain ⟨C0, T0, N0, ty0, hc0, hsel0⟩ : ∃ (C0 : String) (T0 : u_T) (N0 : Nat) (ty0 : Nat → FieldType), zCls ci0 C0 T0 N0 ty0 ∧ Cond.selects C0 ⟨"PluralBranches$Plural", "thing", "(LPluralBranches$Sheet;)LPluralBranches$Thing;"⟩ yX16_thing ∈ lw_all := (zal ⟨_, _, _, _, zc18, q1544⟩ (za0) : ∀ ci ∈ [18], ∃ (C0 : String) (T0 : u_T) (N0 : Nat) (ty0 : Nat → FieldType), zCls ci C0 T0 N0 ty0 ∧ Cond.selects C0 ⟨"PluralBranches$Plural", "thing", "(LPluralBranches$Sheet;)LPluralBranches$Thing;"⟩ yX16_thing ∈ lw_all) ci0 hci0
  refine z_callR hZ (vx_runU (As := [va_rf a0]) (rest := []) hC.fix (w_X16_thing hlt hw) (va_cwU (owner := "PluralBranches$Plain") (x := ⟨"PluralBranches$Plural", "thing", "(LPluralBranches$Sheet;)LPluralBranches$Thing;"⟩) 1 hts (lw_app (zal q1542 (zal q1543 (zal hsel0 (zal q1410 (zal q95 za0))))) (lw_meth q1411)) rfl rfl rfl rfl (by decide +kernel) ⟨(show 6 + 1 ≤ 10 + 2 * d by omega), (show 8 + (2 + 11) + (178) ≤ 263 + 46 * d by omega)⟩) (z_preV hC hZ hM0 hc0) rfl rfl hl.1 rfl (lv_room (Nat.zero_le _)) dX21_write_2 ⟨(show cells + k57 ≤ k by omega), (show slots + n58 ≤ n by omega)⟩) (fun r56 M H locs hw1 hZ => ?_) (fun q M H locs ci fs E T9 N9 hw1 hZ hc1 hM1 hb1 => ?_)
  · replace hw := hw1
    clear hw1
    have hk : cells + k57 + (k - k57) ≤ k := by omega
    have hn : slots + n58 + (n - n58) ≤ n := by omega
    generalize cells + k57 = cells at hk ⊢
    generalize slots + n58 = slots at hn ⊢
    clear hk1 hn1
    refine lv_aload_n hx hb dX21_write_5 rfl (lv_at hl 0 rfl) ?_
    obtain ⟨fs0, g59, hM0, hx0, hw⟩ := hw
    refine z_get hC hZ hM0 zc18 2 (by decide) q740 (u_same (hts _ q741)) hx0 dX21_write_6 ?_
    obtain ⟨b60, hr0, hw⟩ := hw
    subst hr0
    rcases hw with hw | hw
    · obtain ⟨⟨ci0, fs0, hci0, hM0⟩, hw⟩ := hw
      obtain ⟨C0, T0, N0, ty0, hc0, hsel0, hf0⟩ : ∃ (C0 : String) (T0 : u_T) (N0 : Nat) (ty0 : Nat → FieldType), zCls ci0 C0 T0 N0 ty0 ∧ Cond.selects C0 ⟨"PluralBranches$Thing", "decimal", "(I)LPluralBranches$Decimal;"⟩ yX25_decimal ∈ lw_all ∧ (C0, ⟨"PluralBranches$Thing", "decimal", "(I)LPluralBranches$Decimal;"⟩, yX25_decimal) ∈ zFs := (zal ⟨_, _, _, _, zc22, q1327, List.mem_of_getElem? (i := 8) rfl⟩ (za0) : ∀ ci ∈ [22], ∃ (C0 : String) (T0 : u_T) (N0 : Nat) (ty0 : Nat → FieldType), zCls ci C0 T0 N0 ty0 ∧ Cond.selects C0 ⟨"PluralBranches$Thing", "decimal", "(I)LPluralBranches$Decimal;"⟩ yX25_decimal ∈ lw_all ∧ (C0, ⟨"PluralBranches$Thing", "decimal", "(I)LPluralBranches$Decimal;"⟩, yX25_decimal) ∈ zFs) ci0 hci0
      refine z_callR5 hZ (vx_runF (As := [.int g59]) (rest := []) (hC.vK.1 _ _ hc0.1).2 hC.fix (w_X25_decimal hlt hw) (va_cwF 1 hts (lw_app (zal q1546 (zal hsel0 (zal q1329 (zal q109 za0)))) (lw_meth q1331)) rfl rfl rfl (hC.K.2.2.2.1 _ hf0) (by decide +kernel) ⟨(show 1 + 1 ≤ 10 + 2 * d by omega), (show 8 + (2 + 11) + (64) ≤ 263 + 46 * d by omega)⟩) (z_preV hC hZ hM0 hc0) rfl rfl hl.1 rfl (lv_room (Nat.zero_le _)) dX21_write_9 ⟨(show cells + 0 ≤ k by omega), (show slots + 0 ≤ n by omega)⟩) (fun r61 M H locs hw1 hZ => ?_) (fun q M H locs ci fs E T9 N9 hw hZ hc1 hM1 hb1 => False.elim hw)
      replace hw := hw1
      clear hw1
      refine W.cs (cells' := cells) (slots' := slots) rfl rfl ?_
      exact wk_X21_write_L14 hG hP _ _ _ _ _ hk hn hZ (lv_sub hl [0, 1] rfl) hw
    · obtain ⟨⟨ci0, fs0, hci0, hM0⟩, hw⟩ := hw
      obtain ⟨k65, n66, hk1, hn1, hw⟩ := hw
      obtain ⟨C0, T0, N0, ty0, hc0, hin0⟩ : ∃ (C0 : String) (T0 : u_T) (N0 : Nat) (ty0 : Nat → FieldType), zCls ci0 C0 T0 N0 ty0 ∧ C0 ∈ ["PluralBranches$Gendered", "PluralBranches$Listed"] := (zal ⟨_, _, _, _, zc23, by decide⟩ (zal ⟨_, _, _, _, zc24, by decide⟩ (za0)) : ∀ ci ∈ [23, 24], ∃ (C0 : String) (T0 : u_T) (N0 : Nat) (ty0 : Nat → FieldType), zCls ci C0 T0 N0 ty0 ∧ C0 ∈ ["PluralBranches$Gendered", "PluralBranches$Listed"]) ci0 hci0
      refine z_callR5 hZ (z_runDef (As := [.int g59]) (rest := []) hC hin0 (w_X29_decimal hlt hw) (hC.vK.1 _ _ hc0.1).2 q1546 ⟨(show 5 + 1 ≤ 10 + 2 * d by omega), (show 8 + (2 + 11) + (157) ≤ 263 + 46 * d by omega)⟩ q1321 q2266 (lw_meth q1323) (z_preV hC hZ hM0 hc0) rfl rfl rfl rfl hl.1 rfl (lv_room (Nat.zero_le _)) dX21_write_9 ⟨(show cells + k65 ≤ k by omega), (show slots + n66 ≤ n by omega)⟩) (fun r64 M H locs hw1 hZ => ?_) (fun q M H locs ci fs E T9 N9 hw1 hZ hc1 hM1 hb1 => ?_)
      · replace hw := hw1
        clear hw1
        have hk : cells + k65 + ((k - k57) - k65) ≤ k := by omega
        have hn : slots + n66 + ((n - n58) - n66) ≤ n := by omega
        generalize cells + k65 = cells at hk ⊢
        generalize slots + n66 = slots at hn ⊢
        clear hk1 hn1
        exact wk_X21_write_L14 hG hP _ _ _ _ _ hk hn hZ (lv_sub hl [0, 1] rfl) hw
      · replace hw := hw1
        clear hw1
        exact z_out hG hZ hM1 hb1 hc1 (by decide) (by omega) (by omega) hw
  · replace hw := hw1
    clear hw1
    exact z_out hG hZ hM1 hb1 hc1 (by decide) (by omega) (by omega) hw
def wp_X22_write_L32 (D : zD) (P : (Unit → zM → Prop) → (Nat → zM → Prop) → Nat → Nat → Nat → Option Nat → zM → Prop) (post : Unit → zM → Prop) (xp : Nat → zM → Prop) (o : Nat) (k : Nat) (n : Nat) (x1 : Option Nat) (y0 : Option Nat) (y1 : Option Nat) (y2 : Int64) (M : zM) : Prop :=
    ((zd y1 fun b1 => (zis M b1 [19] ∧ wp_X20_orOther D (fun r2 M => ((zd y0 fun b5 => (zis M b5 [26] ∧ wp_J3_get D (fun r6 M => ((∀ w, r6 = some w → zis M w [20]) ∧ ((zd r6 fun b9 => zgR M b9 20 1 fun g10 => ((zd g10 fun b11 => (zis M b11 [11] ∧ (∃ k13 n14, k13 ≤ k ∧ n14 ≤ n ∧ P (fun _ M => post () M) xp k13 n14 b11 x1 M)))))))) b5 r2 M)))) b1 (y2.toInt32) M)))
set_option maxHeartbeats 4000000 in
set_option maxRecDepth 100000 in
theorem wk_X22_write_L32 {p : Program} {l : Launch} {e : Env} {s : State} {m : MethodId} {args : Array Value} {below : List Frame} {meth : Method} {c : Code} {D : zD} {P : (Unit → zM → Prop) → (Nat → zM → Prop) → Nat → Nat → Nat → Option Nat → zM → Prop} {post : Unit → zM → Prop} {xp : Nat → zM → Prop} {K N : Nat} {d : Nat} {o : Nat} (hG : zGx p l s m args meth c cX22_write 3 "PluralBranches$Bent" D (none) "write" []) (hP : ∀ (post : Unit → zM → Prop) (xp : Nat → zM → Prop) (k n : Nat) (o : Nat) (a0 : Option Nat) (M : zM), P post xp k n o a0 M → zMet l D yX12_write (ws_ yX12_write cX12_write 3 (none)) (rm_X12_write d k n) k n [.ref o, va_rf a0] M zU post xp) : ∀ {H : Heap} {locs : List Loc} {cells slots : Nat} {ls : Array Slot} (k : Nat) (n : Nat) (x1 : Option Nat) (y0 : Option Nat) (y1 : Option Nat) (y2 : Int64) (M : zM), cells + k ≤ K → slots + n ≤ N → zS D M H locs → lv_has ls 3 [(1, va_rf x1)] → wp_X22_write_L32 D P post xp o k n x1 y0 y1 y2 M → W p l e (rm_X22_write d K N) s m args below meth c H locs cells slots (vx_MQ below (zQ D zU post) (zX D xp) args s K N (zA D)) (F0 m 32 ls [.long y2, va_rf y1, va_rf y0]) := by
  have hC := hG.1
  have hx := hC.x
  have hb := hC.b
  have hown := hC.o
  have hts := hC.ts
  have hlt := hG.2.2.2.2.2
  intro H locs cells slots ls k n x1 y0 y1 y2 M hk hn hZ hl hw
  refine lv_l2i hx hb dX22_write_32 rfl ?_
  obtain ⟨b15, hr0, hw⟩ := hw
  subst hr0
  obtain ⟨⟨ci0, fs0, hci0, hM0⟩, hw⟩ := hw
  obtain ⟨C0, T0, N0, ty0, hc0, hsel0⟩ : ∃ (C0 : String) (T0 : u_T) (N0 : Nat) (ty0 : Nat → FieldType), zCls ci0 C0 T0 N0 ty0 ∧ Cond.selects C0 ⟨"PluralBranches$Bent", "orOther", "(I)I"⟩ yX20_orOther ∈ lw_all := (zal ⟨_, _, _, _, zc19, q1419⟩ (za0) : ∀ ci ∈ [19], ∃ (C0 : String) (T0 : u_T) (N0 : Nat) (ty0 : Nat → FieldType), zCls ci C0 T0 N0 ty0 ∧ Cond.selects C0 ⟨"PluralBranches$Bent", "orOther", "(I)I"⟩ yX20_orOther ∈ lw_all) ci0 hci0
  refine z_callI hZ (vx_runU (As := [.int (y2.toInt32)]) (rest := [va_rf y0]) hC.fix (w_X20_orOther hlt hw) (va_cwU (owner := "PluralBranches$Choice") (x := ⟨"PluralBranches$Bent", "orOther", "(I)I"⟩) 1 hts (lw_app (zal q1417 (zal q1418 (zal hsel0 (zal q1160 (zal q99 za0))))) (lw_meth q1161)) rfl rfl rfl rfl (by decide +kernel) ⟨(show 5 + 1 ≤ 10 + 2 * d by omega), (show 8 + (3 + 11) + (150) ≤ 263 + 46 * d by omega)⟩) (z_preV hC hZ hM0 hc0) rfl rfl hl.1 rfl (lv_room (Nat.le_trans (zrm1 (zcat _) zrm0) (Nat.le_of_ble_eq_true rfl))) dX22_write_33 ⟨(show cells + 0 ≤ K by omega), (show slots + 0 ≤ N by omega)⟩) (fun r16 M H locs hw1 hZ => ?_) (fun q M H locs ci fs E T9 N9 hw hZ hc1 hM1 hb1 => False.elim hw)
  replace hw := hw1
  clear hw1
  refine W.cs (cells' := cells) (slots' := slots) rfl rfl ?_
  obtain ⟨b19, hr0, hw⟩ := hw
  subst hr0
  obtain ⟨⟨ci0, fs0, hci0, hM0⟩, hw⟩ := hw
  obtain rfl : ci0 = 26 := List.mem_singleton.mp hci0
  refine z_callR hZ (vx_runV (As := [.int r16]) (rest := []) hC.fix (w_J3_get hlt hw) (cwV 1 hts (lw_V q1420 q468 q469 q74 q470) rfl rfl rfl ⟨rfl, dd_J3_get⟩ ⟨(show 3 + 1 ≤ 10 + 2 * d by omega), (show 8 + (2 + 11) + (107) ≤ 263 + 46 * d by omega)⟩) (z_preV hC hZ hM0 zc26) rfl rfl hl.1 rfl (lv_room (Nat.zero_le _)) dX22_write_36 ⟨(show cells + 0 ≤ K by omega), (show slots + 0 ≤ N by omega)⟩) (fun r20 M H locs hw1 hZ => ?_) (fun q M H locs ci fs E T9 N9 hw hZ hc1 hM1 hb1 => False.elim hw)
  replace hw := hw1
  clear hw1
  refine W.cs (cells' := cells) (slots' := slots) rfl rfl ?_
  obtain ⟨hc0, hw⟩ := hw
  refine z_castO (r := r20) hC hZ hc0 (zal ⟨_, _, _, _, zc20, (Or.inl rfl)⟩ (za0)) q1421 dX22_write_39 ?_
  obtain ⟨b23, hr0, hw⟩ := hw
  subst hr0
  obtain ⟨fs0, g24, hM0, hx0, hw⟩ := hw
  refine z_getN hC hZ hM0 zc20 1 (by decide) q974 (fun _ h9 => h9) hx0 dX22_write_42 ?_
  refine z_aload_n hC dX22_write_45 rfl (lv_at hl 0 rfl) ?_
  obtain ⟨b25, hr0, hw⟩ := hw
  subst hr0
  obtain ⟨⟨ci0, fs0, hci0, hM0⟩, hw⟩ := hw
  obtain ⟨k27, n28, hk1, hn1, hw⟩ := hw
  obtain rfl : ci0 = 11 := List.mem_singleton.mp hci0
  refine z_callU hZ (vx_runV (As := [va_rf x1]) (rest := []) hC.fix (hP _ _ _ _ _ _ _ hw) (cwV 1 hts (lw_V q1422 q1395 q1396 q88 q1397) rfl rfl rfl ⟨rfl, dd_X12_write⟩ ⟨(show 9 + 2 * d + 1 ≤ 10 + 2 * d by omega), (show 8 + (3 + 11) + (241 + 46 * d) ≤ 263 + 46 * d by omega)⟩) (z_preV hC hZ hM0 zc11) rfl rfl hl.1 rfl (lv_room (Nat.zero_le _)) dX22_write_46 ⟨(show cells + k27 ≤ K by omega), (show slots + n28 ≤ N by omega)⟩) (fun r26 M H locs hw1 hZ => ?_) (fun q M H locs ci fs E T9 N9 hw1 hZ hc1 hM1 hb1 => ?_)
  · replace hw := hw1
    clear hw1
    have hk : cells + k27 + (k - k27) ≤ K := by omega
    have hn : slots + n28 + (n - n28) ≤ N := by omega
    generalize cells + k27 = cells at hk ⊢
    generalize slots + n28 = slots at hn ⊢
    clear hk1 hn1
    exact z_vret hG hZ (by omega) (by omega) hw dX22_write_49
  · replace hw := hw1
    clear hw1
    exact z_out hG hZ hM1 hb1 hc1 za0 (by omega) (by omega) hw
def wp_X22_write (D : zD) (P : (Unit → zM → Prop) → (Nat → zM → Prop) → Nat → Nat → Nat → Option Nat → zM → Prop) (post : Unit → zM → Prop) (xp : Nat → zM → Prop) (k : Nat) (n : Nat) (o : Nat) (a0 : Option Nat) (M : zM) : Prop :=
    ((zis M o [19] ∧ (∃ k30 n31, k30 ≤ k ∧ n31 ≤ n ∧ wp_X16_thing D (fun r29 M => ((∃ w fs, r29 = some w ∧ M w = some (.inr (23, fs)) ∧ (zgI M o 19 2 fun g32 => ((∃ k34 n35, k34 ≤ (k - k30) ∧ n35 ≤ (n - n31) ∧ wp_X0_need D (fun _ M => (zgR M o 19 0 fun g36 => ((zd r29 fun b37 => ((zis M b37 [22] ∧ wp_X25_held D (fun r38 M => wp_X22_write_L32 D P post xp o ((k - k30) - k34) ((n - n31) - n35) a0 g36 (some o) r38 M) b37 (1 : Int32) M) ∨ (zis M b37 [23] ∧ wp_X26_held D (fun r41 M => wp_X22_write_L32 D P post xp o ((k - k30) - k34) ((n - n31) - n35) a0 g36 (some o) r41 M) b37 (1 : Int32) M) ∨ (zis M b37 [24] ∧ wp_X27_held D (fun r44 M => wp_X22_write_L32 D P post xp o ((k - k30) - k34) ((n - n31) - n35) a0 g36 (some o) r44 M) b37 (1 : Int32) M)))))) xp k34 n35 (1 : Int32) ((-20 : Int32) - g32) M)))) ∨ ((∀ w, r29 = some w → zis M w [22, 24]) ∧ (zgI M o 19 2 fun g47 => ((∃ k49 n50, k49 ≤ (k - k30) ∧ n50 ≤ (n - n31) ∧ wp_X0_need D (fun _ M => (zgR M o 19 0 fun g51 => ((zd r29 fun b52 => ((zis M b52 [22] ∧ wp_X25_held D (fun r53 M => wp_X22_write_L32 D P post xp o ((k - k30) - k49) ((n - n31) - n50) a0 g51 (some o) r53 M) b52 (1 : Int32) M) ∨ (zis M b52 [23] ∧ wp_X26_held D (fun r56 M => wp_X22_write_L32 D P post xp o ((k - k30) - k49) ((n - n31) - n50) a0 g51 (some o) r56 M) b52 (1 : Int32) M) ∨ (zis M b52 [24] ∧ wp_X27_held D (fun r59 M => wp_X22_write_L32 D P post xp o ((k - k30) - k49) ((n - n31) - n50) a0 g51 (some o) r59 M) b52 (1 : Int32) M)))))) xp k49 n50 (0 : Int32) ((-20 : Int32) - g47) M)))))) xp k30 n31 o a0 M)))
set_option maxHeartbeats 4000000 in
set_option maxRecDepth 100000 in
theorem w_X22_write {l : Launch} {D : zD} {post : Unit → zM → Prop} {xp : Nat → zM → Prop} {P : (Unit → zM → Prop) → (Nat → zM → Prop) → Nat → Nat → Nat → Option Nat → zM → Prop} {d : Nat} (hlt : l.stackTraces = false) (hP : ∀ (post : Unit → zM → Prop) (xp : Nat → zM → Prop) (k n : Nat) (o : Nat) (a0 : Option Nat) (M : zM), P post xp k n o a0 M → zMet l D yX12_write (ws_ yX12_write cX12_write 3 (none)) (rm_X12_write d k n) k n [.ref o, va_rf a0] M zU post xp) {k : Nat} {n : Nat} {o : Nat} {a0 : Option Nat} {M : zM} (hw : wp_X22_write D P post xp k n o a0 M) : zMet l D yX22_write (ws_ yX22_write cX22_write 3 (none)) (rm_X22_write d k n) k n [.ref o, va_rf a0] M zU post xp := by
  unfold wp_X22_write at hw
  have hlv : lv_args 0 [.ref o, va_rf a0] = [(0, .ref o), (1, va_rf a0)] := (zargs1 rfl (zargs1 (zcat _) rfl))
  refine z_ofW hlt (by decide) (Nat.le_trans (zsl1 rfl (zsl1 (zcat _) (Nat.le_refl 0 : (lg_sl []).length ≤ 0))) (Nat.le_of_ble_eq_true rfl)) hlv ?_
  intro p e s m args below meth c ls hG hZ hl
  have hC := hG.1
  have hx := hC.x
  have hb := hC.b
  have hown := hC.o
  have hts := hC.ts
  have hlt := hG.2.2.2.2.2
  obtain ⟨cells, hce⟩ : ∃ z : Nat, z = 0 := ⟨0, rfl⟩
  obtain ⟨slots, hsl⟩ : ∃ z : Nat, z = 0 := ⟨0, rfl⟩
  refine W.cs (cells' := cells) (slots' := slots) hce.symm hsl.symm ?_
  have hk : cells + k ≤ k := by omega
  have hn : slots + n ≤ n := by omega
  clear hce hsl
  refine lv_aload_n hx hb dX22_write_0 rfl (lv_at hl 0 rfl) ?_
  refine z_aload_n hC dX22_write_1 rfl (lv_at hl 1 rfl) ?_
  obtain ⟨⟨ci0, fs0, hci0, hM0⟩, hw⟩ := hw
  obtain ⟨k63, n64, hk1, hn1, hw⟩ := hw
  obtain ⟨C0, T0, N0, ty0, hc0, hsel0⟩ : ∃ (C0 : String) (T0 : u_T) (N0 : Nat) (ty0 : Nat → FieldType), zCls ci0 C0 T0 N0 ty0 ∧ Cond.selects C0 ⟨"PluralBranches$Bent", "thing", "(LPluralBranches$Sheet;)LPluralBranches$Thing;"⟩ yX16_thing ∈ lw_all := (zal ⟨_, _, _, _, zc19, q1409⟩ (za0) : ∀ ci ∈ [19], ∃ (C0 : String) (T0 : u_T) (N0 : Nat) (ty0 : Nat → FieldType), zCls ci C0 T0 N0 ty0 ∧ Cond.selects C0 ⟨"PluralBranches$Bent", "thing", "(LPluralBranches$Sheet;)LPluralBranches$Thing;"⟩ yX16_thing ∈ lw_all) ci0 hci0
  refine z_callR hZ (vx_runU (As := [va_rf a0]) (rest := []) hC.fix (w_X16_thing hlt hw) (va_cwU (owner := "PluralBranches$Plain") (x := ⟨"PluralBranches$Bent", "thing", "(LPluralBranches$Sheet;)LPluralBranches$Thing;"⟩) 1 hts (lw_app (zal q1406 (zal q1407 (zal hsel0 (zal q1410 (zal q95 za0))))) (lw_meth q1411)) rfl rfl rfl rfl (by decide +kernel) ⟨(show 6 + 1 ≤ 10 + 2 * d by omega), (show 8 + (2 + 11) + (178) ≤ 263 + 46 * d by omega)⟩) (z_preV hC hZ hM0 hc0) rfl rfl hl.1 rfl (lv_room (Nat.zero_le _)) dX22_write_2 ⟨(show cells + k63 ≤ k by omega), (show slots + n64 ≤ n by omega)⟩) (fun r62 M H locs hw1 hZ => ?_) (fun q M H locs ci fs E T9 N9 hw1 hZ hc1 hM1 hb1 => ?_)
  · replace hw := hw1
    clear hw1
    have hk : cells + k63 + (k - k63) ≤ k := by omega
    have hn : slots + n64 + (n - n64) ≤ n := by omega
    generalize cells + k63 = cells at hk ⊢
    generalize slots + n64 = slots at hn ⊢
    clear hk1 hn1
    refine z_astore_n (i := 2) (lv' := [(2, va_rf r62), (0, .ref o), (1, va_rf a0)]) hC dX22_write_5 rfl hl (by decide) (zfc rfl (zfk rfl (zfk (zfa rfl) rfl))) (fun ls hl1 => ?_)
    replace hl := hl1
    clear hl1
    refine z_aload_n hC dX22_write_6 rfl (lv_at hl 0 rfl) ?_
    rcases hw with ⟨w0, fs0, hr0, hM0, hw⟩ | ⟨hc0, hw⟩
    · refine z_instYO (r := r62) hC hZ hr0 hM0 zc23 q1413 rfl dX22_write_7 ?_
      refine lv_bipush (v := (-20)) hx hb dX22_write_10 (by decide) ?_
      refine lv_aload_n hx hb dX22_write_12 rfl (lv_at hl 1 rfl) ?_
      obtain ⟨fs0, g65, hM0, hx0, hw⟩ := hw
      refine z_get hC hZ hM0 zc19 2 (by decide) q738 (u_same (hts _ q739)) hx0 dX22_write_13 ?_
      refine lv_isub hx hb dX22_write_16 ?_
      obtain ⟨k67, n68, hk1, hn1, hw⟩ := hw
      refine z_callU hZ (vx_runSN (As := [.int (1 : Int32), .int ((-20 : Int32) - g65)]) (rest := []) hC.fix (w_X0_need hlt hw) ⟨va_cnB 2 hts (lw_meth q1003) rfl rfl rfl (hC.nw q1414 rfl) (hts _ q67) dd_X0_need ⟨(show 5 + 1 ≤ 10 + 2 * d by omega), (show 8 + (2 + 11) + (157) ≤ 263 + 46 * d by omega)⟩, hts _ q1002, trivial⟩ (z_preS hC hZ) rfl rfl hl.1 rfl (lv_room (Nat.zero_le _)) dX22_write_17 ⟨(show cells + k67 ≤ k by omega), (show slots + n68 ≤ n by omega)⟩) (fun r66 M H locs hw1 hZ => ?_) (fun q M H locs ci fs E T9 N9 hw1 hZ hc1 hM1 hb1 => ?_)
      · replace hw := hw1
        clear hw1
        have hk : cells + k67 + ((k - k63) - k67) ≤ k := by omega
        have hn : slots + n68 + ((n - n64) - n68) ≤ n := by omega
        generalize cells + k67 = cells at hk ⊢
        generalize slots + n68 = slots at hn ⊢
        clear hk1 hn1
        refine lv_aload_n hx hb dX22_write_20 rfl (lv_at hl 1 rfl) ?_
        obtain ⟨fs0, g69, hM0, hx0, hw⟩ := hw
        refine z_get hC hZ hM0 zc19 0 (by decide) q822 (u_same (hts _ q823)) hx0 dX22_write_21 ?_
        refine lv_aload_n hx hb dX22_write_24 rfl (lv_at hl 1 rfl) ?_
        refine z_aload_n hC dX22_write_25 rfl (lv_at hl 0 rfl) ?_
        refine lv_iconst (v := 1) hx hb dX22_write_26 (by decide) ?_
        obtain ⟨b70, hr0, hw⟩ := hw
        subst hr0
        rcases hw with hw | hw | hw
        · obtain ⟨⟨ci0, fs0, hci0, hM0⟩, hw⟩ := hw
          obtain ⟨C0, T0, N0, ty0, hc0, hsel0, hf0⟩ : ∃ (C0 : String) (T0 : u_T) (N0 : Nat) (ty0 : Nat → FieldType), zCls ci0 C0 T0 N0 ty0 ∧ Cond.selects C0 ⟨"PluralBranches$Thing", "held", "(I)J"⟩ yX25_held ∈ lw_all ∧ (C0, ⟨"PluralBranches$Thing", "held", "(I)J"⟩, yX25_held) ∈ zFs := (zal ⟨_, _, _, _, zc22, q1279, List.mem_of_getElem? (i := 7) rfl⟩ (za0) : ∀ ci ∈ [22], ∃ (C0 : String) (T0 : u_T) (N0 : Nat) (ty0 : Nat → FieldType), zCls ci C0 T0 N0 ty0 ∧ Cond.selects C0 ⟨"PluralBranches$Thing", "held", "(I)J"⟩ yX25_held ∈ lw_all ∧ (C0, ⟨"PluralBranches$Thing", "held", "(I)J"⟩, yX25_held) ∈ zFs) ci0 hci0
          refine z_callL5 hZ (vx_runF (As := [.int (1 : Int32)]) (rest := [.ref o, va_rf g69]) (hC.vK.1 _ _ hc0.1).2 hC.fix (w_X25_held hlt hw) (va_cwF 1 hts (lw_app (zal q1416 (zal hsel0 (zal q1281 (zal q109 za0)))) (lw_meth q1283)) rfl rfl rfl (hC.K.2.2.2.1 _ hf0) (by decide +kernel) ⟨(show 1 + 1 ≤ 10 + 2 * d by omega), (show 8 + (2 + 11) + (64) ≤ 263 + 46 * d by omega)⟩) (z_preV hC hZ hM0 hc0) rfl rfl hl.1 rfl (lv_room (Nat.le_trans (zrm1 rfl (zrm1 (zcat _) zrm0)) (Nat.le_of_ble_eq_true rfl))) dX22_write_27 ⟨(show cells + 0 ≤ k by omega), (show slots + 0 ≤ n by omega)⟩) (fun r71 M H locs hw1 hZ => ?_) (fun q M H locs ci fs E T9 N9 hw hZ hc1 hM1 hb1 => False.elim hw)
          replace hw := hw1
          clear hw1
          refine W.cs (cells' := cells) (slots' := slots) rfl rfl ?_
          exact wk_X22_write_L32 hG hP _ _ _ _ _ _ _ hk hn hZ (lv_sub hl [2] rfl) hw
        · obtain ⟨⟨ci0, fs0, hci0, hM0⟩, hw⟩ := hw
          obtain ⟨C0, T0, N0, ty0, hc0, hsel0, hf0⟩ : ∃ (C0 : String) (T0 : u_T) (N0 : Nat) (ty0 : Nat → FieldType), zCls ci0 C0 T0 N0 ty0 ∧ Cond.selects C0 ⟨"PluralBranches$Thing", "held", "(I)J"⟩ yX26_held ∈ lw_all ∧ (C0, ⟨"PluralBranches$Thing", "held", "(I)J"⟩, yX26_held) ∈ zFs := (zal ⟨_, _, _, _, zc23, q1267, List.mem_of_getElem? (i := 5) rfl⟩ (za0) : ∀ ci ∈ [23], ∃ (C0 : String) (T0 : u_T) (N0 : Nat) (ty0 : Nat → FieldType), zCls ci C0 T0 N0 ty0 ∧ Cond.selects C0 ⟨"PluralBranches$Thing", "held", "(I)J"⟩ yX26_held ∈ lw_all ∧ (C0, ⟨"PluralBranches$Thing", "held", "(I)J"⟩, yX26_held) ∈ zFs) ci0 hci0
          refine z_callL5 hZ (vx_runF (As := [.int (1 : Int32)]) (rest := [.ref o, va_rf g69]) (hC.vK.1 _ _ hc0.1).2 hC.fix (w_X26_held hlt hw) (va_cwF 1 hts (lw_app (zal q1416 (zal hsel0 (zal q1269 (zal q110 za0)))) (lw_meth q1271)) rfl rfl rfl (hC.K.2.2.2.1 _ hf0) (by decide +kernel) ⟨(show 1 + 1 ≤ 10 + 2 * d by omega), (show 8 + (2 + 11) + (64) ≤ 263 + 46 * d by omega)⟩) (z_preV hC hZ hM0 hc0) rfl rfl hl.1 rfl (lv_room (Nat.le_trans (zrm1 rfl (zrm1 (zcat _) zrm0)) (Nat.le_of_ble_eq_true rfl))) dX22_write_27 ⟨(show cells + 0 ≤ k by omega), (show slots + 0 ≤ n by omega)⟩) (fun r74 M H locs hw1 hZ => ?_) (fun q M H locs ci fs E T9 N9 hw hZ hc1 hM1 hb1 => False.elim hw)
          replace hw := hw1
          clear hw1
          refine W.cs (cells' := cells) (slots' := slots) rfl rfl ?_
          exact wk_X22_write_L32 hG hP _ _ _ _ _ _ _ hk hn hZ (lv_sub hl [2] rfl) hw
        · obtain ⟨⟨ci0, fs0, hci0, hM0⟩, hw⟩ := hw
          obtain ⟨C0, T0, N0, ty0, hc0, hsel0, hf0⟩ : ∃ (C0 : String) (T0 : u_T) (N0 : Nat) (ty0 : Nat → FieldType), zCls ci0 C0 T0 N0 ty0 ∧ Cond.selects C0 ⟨"PluralBranches$Thing", "held", "(I)J"⟩ yX27_held ∈ lw_all ∧ (C0, ⟨"PluralBranches$Thing", "held", "(I)J"⟩, yX27_held) ∈ zFs := (zal ⟨_, _, _, _, zc24, q1273, List.mem_of_getElem? (i := 6) rfl⟩ (za0) : ∀ ci ∈ [24], ∃ (C0 : String) (T0 : u_T) (N0 : Nat) (ty0 : Nat → FieldType), zCls ci C0 T0 N0 ty0 ∧ Cond.selects C0 ⟨"PluralBranches$Thing", "held", "(I)J"⟩ yX27_held ∈ lw_all ∧ (C0, ⟨"PluralBranches$Thing", "held", "(I)J"⟩, yX27_held) ∈ zFs) ci0 hci0
          refine z_callL5 hZ (vx_runF (As := [.int (1 : Int32)]) (rest := [.ref o, va_rf g69]) (hC.vK.1 _ _ hc0.1).2 hC.fix (w_X27_held hlt hw) (va_cwF 1 hts (lw_app (zal q1416 (zal hsel0 (zal q1275 (zal q111 za0)))) (lw_meth q1277)) rfl rfl rfl (hC.K.2.2.2.1 _ hf0) (by decide +kernel) ⟨(show 1 + 1 ≤ 10 + 2 * d by omega), (show 8 + (2 + 11) + (64) ≤ 263 + 46 * d by omega)⟩) (z_preV hC hZ hM0 hc0) rfl rfl hl.1 rfl (lv_room (Nat.le_trans (zrm1 rfl (zrm1 (zcat _) zrm0)) (Nat.le_of_ble_eq_true rfl))) dX22_write_27 ⟨(show cells + 0 ≤ k by omega), (show slots + 0 ≤ n by omega)⟩) (fun r77 M H locs hw1 hZ => ?_) (fun q M H locs ci fs E T9 N9 hw hZ hc1 hM1 hb1 => False.elim hw)
          replace hw := hw1
          clear hw1
          refine W.cs (cells' := cells) (slots' := slots) rfl rfl ?_
          exact wk_X22_write_L32 hG hP _ _ _ _ _ _ _ hk hn hZ (lv_sub hl [2] rfl) hw
      · replace hw := hw1
        clear hw1
        exact z_out hG hZ hM1 hb1 hc1 za0 (by omega) (by omega) hw
    · refine z_instNO (r := r62) hC hZ hc0 (zal ⟨_, _, _, _, zc22, by decide⟩ (zal ⟨_, _, _, _, zc24, by decide⟩ (za0))) q1413 dX22_write_7 ?_
      refine lv_bipush (v := (-20)) hx hb dX22_write_10 (by decide) ?_
      refine lv_aload_n hx hb dX22_write_12 rfl (lv_at hl 1 rfl) ?_
      obtain ⟨fs0, g80, hM0, hx0, hw⟩ := hw
      refine z_get hC hZ hM0 zc19 2 (by decide) q738 (u_same (hts _ q739)) hx0 dX22_write_13 ?_
      refine lv_isub hx hb dX22_write_16 ?_
      obtain ⟨k82, n83, hk1, hn1, hw⟩ := hw
      refine z_callU hZ (vx_runSN (As := [.int (0 : Int32), .int ((-20 : Int32) - g80)]) (rest := []) hC.fix (w_X0_need hlt hw) ⟨va_cnB 2 hts (lw_meth q1003) rfl rfl rfl (hC.nw q1414 rfl) (hts _ q67) dd_X0_need ⟨(show 5 + 1 ≤ 10 + 2 * d by omega), (show 8 + (2 + 11) + (157) ≤ 263 + 46 * d by omega)⟩, hts _ q1002, trivial⟩ (z_preS hC hZ) rfl rfl hl.1 rfl (lv_room (Nat.zero_le _)) dX22_write_17 ⟨(show cells + k82 ≤ k by omega), (show slots + n83 ≤ n by omega)⟩) (fun r81 M H locs hw1 hZ => ?_) (fun q M H locs ci fs E T9 N9 hw1 hZ hc1 hM1 hb1 => ?_)
      · replace hw := hw1
        clear hw1
        have hk : cells + k82 + ((k - k63) - k82) ≤ k := by omega
        have hn : slots + n83 + ((n - n64) - n83) ≤ n := by omega
        generalize cells + k82 = cells at hk ⊢
        generalize slots + n83 = slots at hn ⊢
        clear hk1 hn1
        refine lv_aload_n hx hb dX22_write_20 rfl (lv_at hl 1 rfl) ?_
        obtain ⟨fs0, g84, hM0, hx0, hw⟩ := hw
        refine z_get hC hZ hM0 zc19 0 (by decide) q822 (u_same (hts _ q823)) hx0 dX22_write_21 ?_
        refine lv_aload_n hx hb dX22_write_24 rfl (lv_at hl 1 rfl) ?_
        refine z_aload_n hC dX22_write_25 rfl (lv_at hl 0 rfl) ?_
        refine lv_iconst (v := 1) hx hb dX22_write_26 (by decide) ?_
        obtain ⟨b85, hr0, hw⟩ := hw
        subst hr0
        rcases hw with hw | hw | hw
        · obtain ⟨⟨ci0, fs0, hci0, hM0⟩, hw⟩ := hw
          obtain ⟨C0, T0, N0, ty0, hc0, hsel0, hf0⟩ : ∃ (C0 : String) (T0 : u_T) (N0 : Nat) (ty0 : Nat → FieldType), zCls ci0 C0 T0 N0 ty0 ∧ Cond.selects C0 ⟨"PluralBranches$Thing", "held", "(I)J"⟩ yX25_held ∈ lw_all ∧ (C0, ⟨"PluralBranches$Thing", "held", "(I)J"⟩, yX25_held) ∈ zFs := (zal ⟨_, _, _, _, zc22, q1279, List.mem_of_getElem? (i := 7) rfl⟩ (za0) : ∀ ci ∈ [22], ∃ (C0 : String) (T0 : u_T) (N0 : Nat) (ty0 : Nat → FieldType), zCls ci C0 T0 N0 ty0 ∧ Cond.selects C0 ⟨"PluralBranches$Thing", "held", "(I)J"⟩ yX25_held ∈ lw_all ∧ (C0, ⟨"PluralBranches$Thing", "held", "(I)J"⟩, yX25_held) ∈ zFs) ci0 hci0
          refine z_callL5 hZ (vx_runF (As := [.int (1 : Int32)]) (rest := [.ref o, va_rf g84]) (hC.vK.1 _ _ hc0.1).2 hC.fix (w_X25_held hlt hw) (va_cwF 1 hts (lw_app (zal q1416 (zal hsel0 (zal q1281 (zal q109 za0)))) (lw_meth q1283)) rfl rfl rfl (hC.K.2.2.2.1 _ hf0) (by decide +kernel) ⟨(show 1 + 1 ≤ 10 + 2 * d by omega), (show 8 + (2 + 11) + (64) ≤ 263 + 46 * d by omega)⟩) (z_preV hC hZ hM0 hc0) rfl rfl hl.1 rfl (lv_room (Nat.le_trans (zrm1 rfl (zrm1 (zcat _) zrm0)) (Nat.le_of_ble_eq_true rfl))) dX22_write_27 ⟨(show cells + 0 ≤ k by omega), (show slots + 0 ≤ n by omega)⟩) (fun r86 M H locs hw1 hZ => ?_) (fun q M H locs ci fs E T9 N9 hw hZ hc1 hM1 hb1 => False.elim hw)
          replace hw := hw1
          clear hw1
          refine W.cs (cells' := cells) (slots' := slots) rfl rfl ?_
          exact wk_X22_write_L32 hG hP _ _ _ _ _ _ _ hk hn hZ (lv_sub hl [2] rfl) hw
        · obtain ⟨⟨ci0, fs0, hci0, hM0⟩, hw⟩ := hw
          obtain ⟨C0, T0, N0, ty0, hc0, hsel0, hf0⟩ : ∃ (C0 : String) (T0 : u_T) (N0 : Nat) (ty0 : Nat → FieldType), zCls ci0 C0 T0 N0 ty0 ∧ Cond.selects C0 ⟨"PluralBranches$Thing", "held", "(I)J"⟩ yX26_held ∈ lw_all ∧ (C0, ⟨"PluralBranches$Thing", "held", "(I)J"⟩, yX26_held) ∈ zFs := (zal ⟨_, _, _, _, zc23, q1267, List.mem_of_getElem? (i := 5) rfl⟩ (za0) : ∀ ci ∈ [23], ∃ (C0 : String) (T0 : u_T) (N0 : Nat) (ty0 : Nat → FieldType), zCls ci C0 T0 N0 ty0 ∧ Cond.selects C0 ⟨"PluralBranches$Thing", "held", "(I)J"⟩ yX26_held ∈ lw_all ∧ (C0, ⟨"PluralBranches$Thing", "held", "(I)J"⟩, yX26_held) ∈ zFs) ci0 hci0
          refine z_callL5 hZ (vx_runF (As := [.int (1 : Int32)]) (rest := [.ref o, va_rf g84]) (hC.vK.1 _ _ hc0.1).2 hC.fix (w_X26_held hlt hw) (va_cwF 1 hts (lw_app (zal q1416 (zal hsel0 (zal q1269 (zal q110 za0)))) (lw_meth q1271)) rfl rfl rfl (hC.K.2.2.2.1 _ hf0) (by decide +kernel) ⟨(show 1 + 1 ≤ 10 + 2 * d by omega), (show 8 + (2 + 11) + (64) ≤ 263 + 46 * d by omega)⟩) (z_preV hC hZ hM0 hc0) rfl rfl hl.1 rfl (lv_room (Nat.le_trans (zrm1 rfl (zrm1 (zcat _) zrm0)) (Nat.le_of_ble_eq_true rfl))) dX22_write_27 ⟨(show cells + 0 ≤ k by omega), (show slots + 0 ≤ n by omega)⟩) (fun r89 M H locs hw1 hZ => ?_) (fun q M H locs ci fs E T9 N9 hw hZ hc1 hM1 hb1 => False.elim hw)
          replace hw := hw1
          clear hw1
          refine W.cs (cells' := cells) (slots' := slots) rfl rfl ?_
          exact wk_X22_write_L32 hG hP _ _ _ _ _ _ _ hk hn hZ (lv_sub hl [2] rfl) hw
        · obtain ⟨⟨ci0, fs0, hci0, hM0⟩, hw⟩ := hw
          obtain ⟨C0, T0, N0, ty0, hc0, hsel0, hf0⟩ : ∃ (C0 : String) (T0 : u_T) (N0 : Nat) (ty0 : Nat → FieldType), zCls ci0 C0 T0 N0 ty0 ∧ Cond.selects C0 ⟨"PluralBranches$Thing", "held", "(I)J"⟩ yX27_held ∈ lw_all ∧ (C0, ⟨"PluralBranches$Thing", "held", "(I)J"⟩, yX27_held) ∈ zFs := (zal ⟨_, _, _, _, zc24, q1273, List.mem_of_getElem? (i := 6) rfl⟩ (za0) : ∀ ci ∈ [24], ∃ (C0 : String) (T0 : u_T) (N0 : Nat) (ty0 : Nat → FieldType), zCls ci C0 T0 N0 ty0 ∧ Cond.selects C0 ⟨"PluralBranches$Thing", "held", "(I)J"⟩ yX27_held ∈ lw_all ∧ (C0, ⟨"PluralBranches$Thing", "held", "(I)J"⟩, yX27_held) ∈ zFs) ci0 hci0
          refine z_callL5 hZ (vx_runF (As := [.int (1 : Int32)]) (rest := [.ref o, va_rf g84]) (hC.vK.1 _ _ hc0.1).2 hC.fix (w_X27_held hlt hw) (va_cwF 1 hts (lw_app (zal q1416 (zal hsel0 (zal q1275 (zal q111 za0)))) (lw_meth q1277)) rfl rfl rfl (hC.K.2.2.2.1 _ hf0) (by decide +kernel) ⟨(show 1 + 1 ≤ 10 + 2 * d by omega), (show 8 + (2 + 11) + (64) ≤ 263 + 46 * d by omega)⟩) (z_preV hC hZ hM0 hc0) rfl rfl hl.1 rfl (lv_room (Nat.le_trans (zrm1 rfl (zrm1 (zcat _) zrm0)) (Nat.le_of_ble_eq_true rfl))) dX22_write_27 ⟨(show cells + 0 ≤ k by omega), (show slots + 0 ≤ n by omega)⟩) (fun r92 M H locs hw1 hZ => ?_) (fun q M H locs ci fs E T9 N9 hw hZ hc1 hM1 hb1 => False.elim hw)
          replace hw := hw1
          clear hw1
          refine W.cs (cells' := cells) (slots' := slots) rfl rfl ?_
          exact wk_X22_write_L32 hG hP _ _ _ _ _ _ _ hk hn hZ (lv_sub hl [2] rfl) hw
      · replace hw := hw1
        clear hw1
        exact z_out hG hZ hM1 hb1 hc1 za0 (by omega) (by omega) hw
  · replace hw := hw1
    clear hw1
    exact z_out hG hZ hM1 hb1 hc1 za0 (by omega) (by omega) hw
abbrev rm_X24_write : Room := { frames := 2, cells := 0, slots := 0, locals := 85 }
def wp_X24_write (D : zD) (post : Unit → zM → Prop) (o : Nat) (a0 : Option Nat) (M : zM) : Prop :=
    (zgI M o 21 0 fun g1 => ((zd a0 fun b2 => (zis M b2 [25] ∧ wp_X28_put D (fun _ M => post () M) b2 g1 M))))
set_option maxHeartbeats 4000000 in
set_option maxRecDepth 100000 in
theorem w_X24_write {l : Launch} {D : zD} {post : Unit → zM → Prop} (hlt : l.stackTraces = false) {o : Nat} {a0 : Option Nat} {M : zM} (hw : wp_X24_write D post o a0 M) : zMet l D yX24_write (ws_ yX24_write cX24_write 2 (none)) rm_X24_write 0 0 [.ref o, va_rf a0] M zU post (fun _ _ => False) := by
  unfold wp_X24_write at hw
  have hlv : lv_args 0 [.ref o, va_rf a0] = [(0, .ref o), (1, va_rf a0)] := (zargs1 rfl (zargs1 (zcat _) rfl))
  refine z_ofW hlt (by decide) (Nat.le_trans (zsl1 rfl (zsl1 (zcat _) (Nat.le_refl 0 : (lg_sl []).length ≤ 0))) (Nat.le_of_ble_eq_true rfl)) hlv ?_
  intro p e s m args below meth c ls hG hZ hl
  have hC := hG.1
  have hx := hC.x
  have hb := hC.b
  have hown := hC.o
  have hts := hC.ts
  have hlt := hG.2.2.2.2.2
  obtain ⟨cells, hce⟩ : ∃ z : Nat, z = 0 := ⟨0, rfl⟩
  obtain ⟨slots, hsl⟩ : ∃ z : Nat, z = 0 := ⟨0, rfl⟩
  refine W.cs (cells' := cells) (slots' := slots) hce.symm hsl.symm ?_
  have hk : cells ≤ 0 := Nat.le_of_eq hce
  have hn : slots ≤ 0 := Nat.le_of_eq hsl
  clear hce hsl
  refine z_aload_n hC dX24_write_0 rfl (lv_at hl 1 rfl) ?_
  refine lv_aload_n hx hb dX24_write_1 rfl (lv_at hl 0 rfl) ?_
  obtain ⟨fs0, g6, hM0, hx0, hw⟩ := hw
  refine z_get hC hZ hM0 zc21 0 (by decide) q997 (fun _ h9 => h9) hx0 dX24_write_2 ?_
  obtain ⟨b7, hr0, hw⟩ := hw
  subst hr0
  obtain ⟨⟨ci0, fs0, hci0, hM0⟩, hw⟩ := hw
  obtain rfl : ci0 = 25 := List.mem_singleton.mp hci0
  refine z_callU hZ (vx_runV (As := [.int g6]) (rest := []) hC.fix (w_X28_put hlt hw) (cwV 1 hts (lw_V q1591 q1431 q1432 q113 q1433) rfl rfl rfl ⟨rfl, dd_X28_put⟩ ⟨Nat.le_of_ble_eq_true rfl, Nat.le_of_ble_eq_true rfl⟩) (z_preV hC hZ hM0 zc25) rfl rfl hl.1 rfl (lv_room (Nat.zero_le _)) dX24_write_5 ⟨hk, hn⟩) (fun r8 M H locs hw1 hZ => ?_) (fun q M H locs ci fs E T9 N9 hw hZ hc1 hM1 hb1 => False.elim hw)
  replace hw := hw1
  clear hw1
  refine W.cs (cells' := cells) (slots' := slots) rfl rfl ?_
  exact z_vret hG hZ hk hn hw dX24_write_8
abbrev rm_X28_checks (K N : Nat) : Room := { frames := 6, cells := K, slots := N, locals := 178 }
def wp_X28_checks_L15 (D : zD) (post : Unit → zM → Prop) (xp : Nat → zM → Prop) (o : Nat) (k : Nat) (n : Nat) (y0 : Int32) (M : zM) : Prop :=
    ((∃ k2 n3, k2 ≤ k ∧ n3 ≤ n ∧ wp_X0_need D (fun _ M => post () M) xp k2 n3 y0 (-5 : Int32) M))
set_option maxHeartbeats 4000000 in
set_option maxRecDepth 100000 in
theorem wk_X28_checks_L15 {p : Program} {l : Launch} {e : Env} {s : State} {m : MethodId} {args : Array Value} {below : List Frame} {meth : Method} {c : Code} {D : zD} {post : Unit → zM → Prop} {xp : Nat → zM → Prop} {K N : Nat} {o : Nat} (hG : zGx p l s m args meth c cX28_checks 1 "PluralBranches$Sheet" D (none) "checks" []) : ∀ {H : Heap} {locs : List Loc} {cells slots : Nat} {ls : Array Slot} (k : Nat) (n : Nat) (y0 : Int32) (M : zM), cells + k ≤ K → slots + n ≤ N → zS D M H locs → lv_has ls 1 [] → wp_X28_checks_L15 D post xp o k n y0 M → W p l e (rm_X28_checks K N) s m args below meth c H locs cells slots (vx_MQ below (zQ D zU post) (zX D xp) args s K N (zA D)) (F0 m 15 ls [.int y0]) := by
  have hC := hG.1
  have hx := hC.x
  have hb := hC.b
  have hown := hC.o
  have hts := hC.ts
  have hlt := hG.2.2.2.2.2
  intro H locs cells slots ls k n y0 M hk hn hZ hl hw
  refine lv_bipush (v := (-5)) hx hb dX28_checks_15 (by decide) ?_
  obtain ⟨k5, n6, hk1, hn1, hw⟩ := hw
  refine z_callU hZ (vx_runSN (As := [.int y0, .int (-5 : Int32)]) (rest := []) hC.fix (w_X0_need hlt hw) ⟨va_cnB 2 hts (lw_meth q1003) rfl rfl rfl (hC.nw q1596 rfl) (hts _ q67) dd_X0_need ⟨Nat.le_of_ble_eq_true rfl, Nat.le_of_ble_eq_true rfl⟩, hts _ q1002, trivial⟩ (z_preS hC hZ) rfl rfl hl.1 rfl (lv_room (Nat.zero_le _)) dX28_checks_17 ⟨(show cells + k5 ≤ K by omega), (show slots + n6 ≤ N by omega)⟩) (fun r4 M H locs hw1 hZ => ?_) (fun q M H locs ci fs E T9 N9 hw1 hZ hc1 hM1 hb1 => ?_)
  · replace hw := hw1
    clear hw1
    have hk : cells + k5 + (k - k5) ≤ K := by omega
    have hn : slots + n6 + (n - n6) ≤ N := by omega
    generalize cells + k5 = cells at hk ⊢
    generalize slots + n6 = slots at hn ⊢
    clear hk1 hn1
    exact z_vret hG hZ (by omega) (by omega) hw dX28_checks_20
  · replace hw := hw1
    clear hw1
    exact z_out hG hZ hM1 hb1 hc1 za0 (by omega) (by omega) hw
def wp_X28_checks (D : zD) (post : Unit → zM → Prop) (xp : Nat → zM → Prop) (k : Nat) (n : Nat) (o : Nat) (M : zM) : Prop :=
    (zgI M o 25 1 fun g7 => (((240 : Int32) < g7 → wp_X28_checks_L15 D post xp o k n (0 : Int32) M) ∧ (¬ (240 : Int32) < g7 → wp_X28_checks_L15 D post xp o k n (1 : Int32) M)))
set_option maxHeartbeats 4000000 in
set_option maxRecDepth 100000 in
theorem w_X28_checks {l : Launch} {D : zD} {post : Unit → zM → Prop} {xp : Nat → zM → Prop} (hlt : l.stackTraces = false) {k : Nat} {n : Nat} {o : Nat} {M : zM} (hw : wp_X28_checks D post xp k n o M) : zMet l D yX28_checks (ws_ yX28_checks cX28_checks 1 (none)) (rm_X28_checks k n) k n [.ref o] M zU post xp := by
  unfold wp_X28_checks at hw
  have hlv : lv_args 0 [.ref o] = [(0, .ref o)] := (zargs1 rfl rfl)
  refine z_ofW hlt (by decide) (Nat.le_trans (zsl1 rfl (Nat.le_refl 0 : (lg_sl []).length ≤ 0)) (Nat.le_of_ble_eq_true rfl)) hlv ?_
  intro p e s m args below meth c ls hG hZ hl
  have hC := hG.1
  have hx := hC.x
  have hb := hC.b
  have hown := hC.o
  have hts := hC.ts
  have hlt := hG.2.2.2.2.2
  obtain ⟨cells, hce⟩ : ∃ z : Nat, z = 0 := ⟨0, rfl⟩
  obtain ⟨slots, hsl⟩ : ∃ z : Nat, z = 0 := ⟨0, rfl⟩
  refine W.cs (cells' := cells) (slots' := slots) hce.symm hsl.symm ?_
  have hk : cells + k ≤ k := by omega
  have hn : slots + n ≤ n := by omega
  clear hce hsl
  refine lv_aload_n hx hb dX28_checks_0 rfl (lv_at hl 0 rfl) ?_
  obtain ⟨fs0, g9, hM0, hx0, hw⟩ := hw
  refine z_get hC hZ hM0 zc25 1 (by decide) q1373 (fun _ h9 => h9) hx0 dX28_checks_1 ?_
  refine lv_sipush (v := 240) hx hb dX28_checks_4 (by decide) ?_
  refine lv_icmp_gt (tgt := 14) hx hb dX28_checks_7 (by decide) (fun c10 => ?_) (fun c10 => ?_)
  · replace hw := hw.1 c10
    refine lv_iconst (v := 0) hx hb dX28_checks_14 (by decide) ?_
    exact wk_X28_checks_L15 hG _ _ _ _ hk hn hZ (lv_sub hl [] rfl) hw
  · replace hw := hw.2 c10
    refine lv_iconst (v := 1) hx hb dX28_checks_10 (by decide) ?_
    refine lv_goto (tgt := 15) hx hb dX28_checks_11 (by decide) ?_
    exact wk_X28_checks_L15 hG _ _ _ _ hk hn hZ (lv_sub hl [] rfl) hw
def wp_X12_write_L28 (D : zD) (P : (Unit → zM → Prop) → (Nat → zM → Prop) → Nat → Nat → Nat → Option Nat → zM → Prop) (post : Unit → zM → Prop) (xp : Nat → zM → Prop) (o : Nat) (k2 : Nat → Nat → Option Nat → Int32 → zM → Prop) (k : Nat) (n : Nat) (x1 : Option Nat) (x2 : Int32) (M : zM) : Prop :=
    ((zd x1 fun b1 => (zis M b1 [25] ∧ (∃ k3 n4, k3 ≤ k ∧ n4 ≤ n ∧ wp_X28_checks D (fun _ M => k2 (k - k3) (n - n4) (some b1) (x2 + 1) M) xp k3 n4 b1 M))))
set_option maxHeartbeats 4000000 in
set_option maxRecDepth 100000 in
theorem wk_X12_write_L28 {p : Program} {l : Launch} {e : Env} {s : State} {m : MethodId} {args : Array Value} {below : List Frame} {meth : Method} {c : Code} {D : zD} {P : (Unit → zM → Prop) → (Nat → zM → Prop) → Nat → Nat → Nat → Option Nat → zM → Prop} {post : Unit → zM → Prop} {xp : Nat → zM → Prop} {K N : Nat} {d : Nat} {o : Nat} (hG : zGx p l s m args meth c cX12_write 3 "PluralBranches$Parts" D (none) "write" []) (hP : ∀ (post : Unit → zM → Prop) (xp : Nat → zM → Prop) (k n : Nat) (o : Nat) (a0 : Option Nat) (M : zM), P post xp k n o a0 M → zMet l D yX12_write (ws_ yX12_write cX12_write 3 (none)) (rm_X12_write d k n) k n [.ref o, va_rf a0] M zU post xp) (k2 : Nat → Nat → Option Nat → Int32 → zM → Prop) (hk2 : ∀ {H : Heap} {locs : List Loc} {cells slots : Nat} {ls : Array Slot} (k : Nat) (n : Nat) (x1 : Option Nat) (x2 : Int32) (M : zM), cells + k ≤ K → slots + n ≤ N → zS D M H locs → lv_has ls 3 [(0, .ref o), (1, va_rf x1), (2, .int x2)] → k2 k n x1 x2 M → W p l e (rm_X12_write (d + 1) K N) s m args below meth c H locs cells slots (vx_MQ below (zQ D zU post) (zX D xp) args s K N (zA D)) (F0 m 2 ls [])) : ∀ {H : Heap} {locs : List Loc} {cells slots : Nat} {ls : Array Slot} (k : Nat) (n : Nat) (x1 : Option Nat) (x2 : Int32) (M : zM), cells + k ≤ K → slots + n ≤ N → zS D M H locs → lv_has ls 3 [(0, .ref o), (1, va_rf x1), (2, .int x2)] → wp_X12_write_L28 D P post xp o k2 k n x1 x2 M → W p l e (rm_X12_write (d + 1) K N) s m args below meth c H locs cells slots (vx_MQ below (zQ D zU post) (zX D xp) args s K N (zA D)) (F0 m 28 ls []) := by
  have hC := hG.1
  have hx := hC.x
  have hb := hC.b
  have hown := hC.o
  have hts := hC.ts
  have hlt := hG.2.2.2.2.2
  intro H locs cells slots ls k n x1 x2 M hk hn hZ hl hw
  refine z_aload_n hC dX12_write_28 rfl (lv_at hl 1 rfl) ?_
  obtain ⟨b5, hr0, hw⟩ := hw
  subst hr0
  obtain ⟨⟨ci0, fs0, hci0, hM0⟩, hw⟩ := hw
  obtain ⟨k7, n8, hk1, hn1, hw⟩ := hw
  obtain rfl : ci0 = 25 := List.mem_singleton.mp hci0
  refine z_callU hZ (vx_runV (As := []) (rest := []) hC.fix (w_X28_checks hlt hw) (cwV 0 hts (lw_V q1592 q1593 q1594 q113 q1595) rfl rfl rfl ⟨rfl, dd_X28_checks⟩ ⟨(show 6 + 1 ≤ 9 + 2 * (d + 1) by omega), (show 8 + (1 + 11) + (178) ≤ 241 + 46 * (d + 1) by omega)⟩) (z_preV hC hZ hM0 zc25) rfl rfl hl.1 rfl (lv_room (Nat.zero_le _)) dX12_write_29 ⟨(show cells + k7 ≤ K by omega), (show slots + n8 ≤ N by omega)⟩) (fun r6 M H locs hw1 hZ => ?_) (fun q M H locs ci fs E T9 N9 hw1 hZ hc1 hM1 hb1 => ?_)
  · replace hw := hw1
    clear hw1
    have hk : cells + k7 + (k - k7) ≤ K := by omega
    have hn : slots + n8 + (n - n8) ≤ N := by omega
    generalize cells + k7 = cells at hk ⊢
    generalize slots + n8 = slots at hn ⊢
    clear hk1 hn1
    refine lv_iinc (v := (x2 + 1)) (lv' := [(2, .int (x2 + 1)), (0, .ref o), (1, .ref b5)]) hx hb dX12_write_32 hl (k := 2) rfl rfl (by decide) rfl (fun ls hl1 => ?_)
    replace hl := hl1
    clear hl1
    refine lv_goto (tgt := 2) hx hb dX12_write_35 (by decide) ?_
    exact hk2 _ _ _ _ _ hk hn hZ (lv_sub hl [1, 2, 0] rfl) hw
  · replace hw := hw1
    clear hw1
    exact z_out hG hZ hM1 hb1 hc1 za0 (by omega) (by omega) hw
def wp_X12_write_L2 (D : zD) (P : (Unit → zM → Prop) → (Nat → zM → Prop) → Nat → Nat → Nat → Option Nat → zM → Prop) (post : Unit → zM → Prop) (xp : Nat → zM → Prop) (o : Nat) : Nat → Nat → Nat → Option Nat → Int32 → zM → Prop
  | 0 => fun _ _ _ _ _ => False
  | f + 1 => fun k n x1 x2 M =>
    (zgR M o 11 0 fun g9 => ((zd g9 fun b10 => (zis M b10 [26] ∧ wp_J3_size D (fun r11 M => ((r11 ≤ x2 → post () M) ∧ (¬ r11 ≤ x2 → (zgR M o 11 0 fun g14 => ((zd g14 fun b15 => (zis M b15 [26] ∧ wp_J3_get D (fun r16 M => ((∀ w, r16 = some w → zis M w [12, 14, 15, 16, 18, 19, 21]) ∧ ((zd r16 fun b19 => ((zis M b19 [12] ∧ wp_X14_write D (fun _ M => wp_X12_write_L28 D P post xp o (wp_X12_write_L2 D P post xp o f) k n x1 x2 M) b19 x1 M) ∨ (zis M b19 [14] ∧ (∃ k24 n25, k24 ≤ k ∧ n25 ≤ n ∧ wp_X16_write D (fun _ M => wp_X12_write_L28 D P post xp o (wp_X12_write_L2 D P post xp o f) (k - k24) (n - n25) x1 x2 M) xp k24 n25 b19 x1 M)) ∨ (zis M b19 [15] ∧ (∃ k27 n28, k27 ≤ k ∧ n28 ≤ n ∧ wp_X17_write D (fun _ M => wp_X12_write_L28 D P post xp o (wp_X12_write_L2 D P post xp o f) (k - k27) (n - n28) x1 x2 M) xp k27 n28 b19 x1 M)) ∨ (zis M b19 [16] ∧ (∃ k30 n31, k30 ≤ k ∧ n31 ≤ n ∧ wp_X18_write D (fun _ M => wp_X12_write_L28 D P post xp o (wp_X12_write_L2 D P post xp o f) (k - k30) (n - n31) x1 x2 M) xp k30 n31 b19 x1 M)) ∨ (zis M b19 [18] ∧ (∃ k33 n34, k33 ≤ k ∧ n34 ≤ n ∧ wp_X21_write D P (fun _ M => wp_X12_write_L28 D P post xp o (wp_X12_write_L2 D P post xp o f) (k - k33) (n - n34) x1 x2 M) xp k33 n34 b19 x1 M)) ∨ (zis M b19 [19] ∧ (∃ k36 n37, k36 ≤ k ∧ n37 ≤ n ∧ wp_X22_write D P (fun _ M => wp_X12_write_L28 D P post xp o (wp_X12_write_L2 D P post xp o f) (k - k36) (n - n37) x1 x2 M) xp k36 n37 b19 x1 M)) ∨ (zis M b19 [21] ∧ wp_X24_write D (fun _ M => wp_X12_write_L28 D P post xp o (wp_X12_write_L2 D P post xp o f) k n x1 x2 M) b19 x1 M)))))) b15 x2 M))))))) b10 M))))
set_option maxHeartbeats 4000000 in
set_option maxRecDepth 100000 in
theorem wk_X12_write_L2 {p : Program} {l : Launch} {e : Env} {s : State} {m : MethodId} {args : Array Value} {below : List Frame} {meth : Method} {c : Code} {D : zD} {P : (Unit → zM → Prop) → (Nat → zM → Prop) → Nat → Nat → Nat → Option Nat → zM → Prop} {post : Unit → zM → Prop} {xp : Nat → zM → Prop} {K N : Nat} {d : Nat} {o : Nat} (hG : zGx p l s m args meth c cX12_write 3 "PluralBranches$Parts" D (none) "write" []) (hP : ∀ (post : Unit → zM → Prop) (xp : Nat → zM → Prop) (k n : Nat) (o : Nat) (a0 : Option Nat) (M : zM), P post xp k n o a0 M → zMet l D yX12_write (ws_ yX12_write cX12_write 3 (none)) (rm_X12_write d k n) k n [.ref o, va_rf a0] M zU post xp) : ∀ (f : Nat), ∀ {H : Heap} {locs : List Loc} {cells slots : Nat} {ls : Array Slot} (k : Nat) (n : Nat) (x1 : Option Nat) (x2 : Int32) (M : zM), cells + k ≤ K → slots + n ≤ N → zS D M H locs → lv_has ls 3 [(0, .ref o), (1, va_rf x1), (2, .int x2)] → wp_X12_write_L2 D P post xp o f k n x1 x2 M → W p l e (rm_X12_write (d + 1) K N) s m args below meth c H locs cells slots (vx_MQ below (zQ D zU post) (zX D xp) args s K N (zA D)) (F0 m 2 ls []) := by
  have hC := hG.1
  have hx := hC.x
  have hb := hC.b
  have hown := hC.o
  have hts := hC.ts
  have hlt := hG.2.2.2.2.2
  intro f
  induction f with
  | zero =>
    intro H locs cells slots ls k n x1 x2 M hk hn hZ hl hw
    exact absurd hw (fun h => h)
  | succ f ih =>
    intro H locs cells slots ls k n x1 x2 M hk hn hZ hl hw
    refine lv_iload_n hx hb dX12_write_2 rfl (lv_at hl 2 rfl) ?_
    refine lv_aload_n hx hb dX12_write_3 rfl (lv_at hl 0 rfl) ?_
    obtain ⟨fs0, g42, hM0, hx0, hw⟩ := hw
    refine z_get hC hZ hM0 zc11 0 (by decide) q604 (fun _ h9 => h9) hx0 dX12_write_4 ?_
    obtain ⟨b43, hr0, hw⟩ := hw
    subst hr0
    obtain ⟨⟨ci0, fs0, hci0, hM0⟩, hw⟩ := hw
    obtain rfl : ci0 = 26 := List.mem_singleton.mp hci0
    refine z_callI hZ (vx_runV (As := []) (rest := [.int x2]) hC.fix (w_J3_size hlt hw) (cwV 0 hts (lw_V q1398 q464 q465 q74 q466) rfl rfl rfl ⟨rfl, dd_J3_size⟩ ⟨(show 1 + 1 ≤ 9 + 2 * (d + 1) by omega), (show 8 + (1 + 11) + (64) ≤ 241 + 46 * (d + 1) by omega)⟩) (z_preV hC hZ hM0 zc26) rfl rfl hl.1 rfl (lv_room (Nat.le_trans (zrm1 rfl zrm0) (Nat.le_of_ble_eq_true rfl))) dX12_write_7 ⟨(show cells + 0 ≤ K by omega), (show slots + 0 ≤ N by omega)⟩) (fun r44 M H locs hw1 hZ => ?_) (fun q M H locs ci fs E T9 N9 hw hZ hc1 hM1 hb1 => False.elim hw)
    replace hw := hw1
    clear hw1
    refine W.cs (cells' := cells) (slots' := slots) rfl rfl ?_
    refine lv_icmp_ge (tgt := 38) hx hb dX12_write_10 (by decide) (fun c74 => ?_) (fun c74 => ?_)
    · replace hw := hw.1 c74
      exact z_vret hG hZ (by omega) (by omega) hw dX12_write_38
    · replace hw := hw.2 c74
      refine lv_aload_n hx hb dX12_write_13 rfl (lv_at hl 0 rfl) ?_
      obtain ⟨fs0, g47, hM0, hx0, hw⟩ := hw
      refine z_get hC hZ hM0 zc11 0 (by decide) q604 (fun _ h9 => h9) hx0 dX12_write_14 ?_
      refine lv_iload_n hx hb dX12_write_17 rfl (lv_at hl 2 rfl) ?_
      obtain ⟨b48, hr0, hw⟩ := hw
      subst hr0
      obtain ⟨⟨ci0, fs0, hci0, hM0⟩, hw⟩ := hw
      obtain rfl : ci0 = 26 := List.mem_singleton.mp hci0
      refine z_callR hZ (vx_runV (As := [.int x2]) (rest := []) hC.fix (w_J3_get hlt hw) (cwV 1 hts (lw_V q1399 q468 q469 q74 q470) rfl rfl rfl ⟨rfl, dd_J3_get⟩ ⟨(show 3 + 1 ≤ 9 + 2 * (d + 1) by omega), (show 8 + (2 + 11) + (107) ≤ 241 + 46 * (d + 1) by omega)⟩) (z_preV hC hZ hM0 zc26) rfl rfl hl.1 rfl (lv_room (Nat.zero_le _)) dX12_write_18 ⟨(show cells + 0 ≤ K by omega), (show slots + 0 ≤ N by omega)⟩) (fun r49 M H locs hw1 hZ => ?_) (fun q M H locs ci fs E T9 N9 hw hZ hc1 hM1 hb1 => False.elim hw)
      replace hw := hw1
      clear hw1
      refine W.cs (cells' := cells) (slots' := slots) rfl rfl ?_
      obtain ⟨hc0, hw⟩ := hw
      refine z_castO (r := r49) hC hZ hc0 (zal ⟨_, _, _, _, zc12, (Or.inr q2268)⟩ (zal ⟨_, _, _, _, zc14, (Or.inr q2270)⟩ (zal ⟨_, _, _, _, zc15, (Or.inr q2269)⟩ (zal ⟨_, _, _, _, zc16, (Or.inr q2272)⟩ (zal ⟨_, _, _, _, zc18, (Or.inr q2271)⟩ (zal ⟨_, _, _, _, zc19, (Or.inr q2267)⟩ (zal ⟨_, _, _, _, zc21, (Or.inr q2273)⟩ (za0)))))))) q1059 dX12_write_21 ?_
      refine z_aload_n hC dX12_write_24 rfl (lv_at hl 1 rfl) ?_
      obtain ⟨b52, hr0, hw⟩ := hw
      subst hr0
      rcases hw with hw | hw | hw | hw | hw | hw | hw
      · obtain ⟨⟨ci0, fs0, hci0, hM0⟩, hw⟩ := hw
        obtain ⟨C0, T0, N0, ty0, hc0, hsel0⟩ : ∃ (C0 : String) (T0 : u_T) (N0 : Nat) (ty0 : Nat → FieldType), zCls ci0 C0 T0 N0 ty0 ∧ Cond.selects C0 ⟨"PluralBranches$Part", "write", "(LPluralBranches$Sheet;)V"⟩ yX14_write ∈ lw_all := (zal ⟨_, _, _, _, zc12, q1423⟩ (za0) : ∀ ci ∈ [12], ∃ (C0 : String) (T0 : u_T) (N0 : Nat) (ty0 : Nat → FieldType), zCls ci C0 T0 N0 ty0 ∧ Cond.selects C0 ⟨"PluralBranches$Part", "write", "(LPluralBranches$Sheet;)V"⟩ yX14_write ∈ lw_all) ci0 hci0
        refine z_callU hZ (vx_runU (As := [va_rf x1]) (rest := []) hC.fix (w_X14_write hlt hw) (va_cwA (owner := "PluralBranches$Part") (x := ⟨"PluralBranches$Part", "write", "(LPluralBranches$Sheet;)V"⟩) 1 hts (lw_app (zal q1400 (zal q1402 (zal hsel0 (zal q1424 (zal q90 za0))))) (lw_meth q1425)) rfl rfl rfl (hC.nw q1401 rfl) (by decide +kernel) ⟨(show 4 + 1 ≤ 9 + 2 * (d + 1) by omega), (show 8 + (2 + 11) + (133) ≤ 241 + 46 * (d + 1) by omega)⟩) (z_preV hC hZ hM0 hc0) rfl rfl hl.1 rfl (lv_room (Nat.zero_le _)) dX12_write_25 ⟨(show cells + 0 ≤ K by omega), (show slots + 0 ≤ N by omega)⟩) (fun r53 M H locs hw1 hZ => ?_) (fun q M H locs ci fs E T9 N9 hw hZ hc1 hM1 hb1 => False.elim hw)
        replace hw := hw1
        clear hw1
        refine W.cs (cells' := cells) (slots' := slots) rfl rfl ?_
        exact wk_X12_write_L28 hG hP _ (fun {_ _ _ _ _} _z0 _z1 _z2 _z3 _z4 h1 h2 h3 h4 h5 => ih _z0 _z1 _z2 _z3 _z4 h1 h2 h3 h4 h5) _ _ _ _ _ hk hn hZ (lv_sub hl [0, 1, 2] rfl) hw
      · obtain ⟨⟨ci0, fs0, hci0, hM0⟩, hw⟩ := hw
        obtain ⟨k57, n58, hk1, hn1, hw⟩ := hw
        obtain ⟨C0, T0, N0, ty0, hc0, hsel0⟩ : ∃ (C0 : String) (T0 : u_T) (N0 : Nat) (ty0 : Nat → FieldType), zCls ci0 C0 T0 N0 ty0 ∧ Cond.selects C0 ⟨"PluralBranches$Part", "write", "(LPluralBranches$Sheet;)V"⟩ yX16_write ∈ lw_all := (zal ⟨_, _, _, _, zc14, q1538⟩ (za0) : ∀ ci ∈ [14], ∃ (C0 : String) (T0 : u_T) (N0 : Nat) (ty0 : Nat → FieldType), zCls ci C0 T0 N0 ty0 ∧ Cond.selects C0 ⟨"PluralBranches$Part", "write", "(LPluralBranches$Sheet;)V"⟩ yX16_write ∈ lw_all) ci0 hci0
        refine z_callU hZ (vx_runU (As := [va_rf x1]) (rest := []) hC.fix (w_X16_write hlt hw) (va_cwA (owner := "PluralBranches$Part") (x := ⟨"PluralBranches$Part", "write", "(LPluralBranches$Sheet;)V"⟩) 1 hts (lw_app (zal q1400 (zal q1402 (zal hsel0 (zal q1462 (zal q95 za0))))) (lw_meth q1463)) rfl rfl rfl (hC.nw q1401 rfl) (by decide +kernel) ⟨(show 7 + 1 ≤ 9 + 2 * (d + 1) by omega), (show 8 + (2 + 11) + (199) ≤ 241 + 46 * (d + 1) by omega)⟩) (z_preV hC hZ hM0 hc0) rfl rfl hl.1 rfl (lv_room (Nat.zero_le _)) dX12_write_25 ⟨(show cells + k57 ≤ K by omega), (show slots + n58 ≤ N by omega)⟩) (fun r56 M H locs hw1 hZ => ?_) (fun q M H locs ci fs E T9 N9 hw1 hZ hc1 hM1 hb1 => ?_)
        · replace hw := hw1
          clear hw1
          have hk : cells + k57 + (k - k57) ≤ K := by omega
          have hn : slots + n58 + (n - n58) ≤ N := by omega
          generalize cells + k57 = cells at hk ⊢
          generalize slots + n58 = slots at hn ⊢
          clear hk1 hn1
          exact wk_X12_write_L28 hG hP _ (fun {_ _ _ _ _} _z0 _z1 _z2 _z3 _z4 h1 h2 h3 h4 h5 => ih _z0 _z1 _z2 _z3 _z4 h1 h2 h3 h4 h5) _ _ _ _ _ hk hn hZ (lv_sub hl [0, 1, 2] rfl) hw
        · replace hw := hw1
          clear hw1
          exact z_out hG hZ hM1 hb1 hc1 za0 (by omega) (by omega) hw
      · obtain ⟨⟨ci0, fs0, hci0, hM0⟩, hw⟩ := hw
        obtain ⟨k60, n61, hk1, hn1, hw⟩ := hw
        obtain ⟨C0, T0, N0, ty0, hc0, hsel0⟩ : ∃ (C0 : String) (T0 : u_T) (N0 : Nat) (ty0 : Nat → FieldType), zCls ci0 C0 T0 N0 ty0 ∧ Cond.selects C0 ⟨"PluralBranches$Part", "write", "(LPluralBranches$Sheet;)V"⟩ yX17_write ∈ lw_all := (zal ⟨_, _, _, _, zc15, q1453⟩ (za0) : ∀ ci ∈ [15], ∃ (C0 : String) (T0 : u_T) (N0 : Nat) (ty0 : Nat → FieldType), zCls ci C0 T0 N0 ty0 ∧ Cond.selects C0 ⟨"PluralBranches$Part", "write", "(LPluralBranches$Sheet;)V"⟩ yX17_write ∈ lw_all) ci0 hci0
        refine z_callU hZ (vx_runU (As := [va_rf x1]) (rest := []) hC.fix (w_X17_write hlt hw) (va_cwA (owner := "PluralBranches$Part") (x := ⟨"PluralBranches$Part", "write", "(LPluralBranches$Sheet;)V"⟩) 1 hts (lw_app (zal q1400 (zal q1402 (zal hsel0 (zal q1454 (zal q96 za0))))) (lw_meth q1455)) rfl rfl rfl (hC.nw q1401 rfl) (by decide +kernel) ⟨(show 8 + 1 ≤ 9 + 2 * (d + 1) by omega), (show 8 + (2 + 11) + (220) ≤ 241 + 46 * (d + 1) by omega)⟩) (z_preV hC hZ hM0 hc0) rfl rfl hl.1 rfl (lv_room (Nat.zero_le _)) dX12_write_25 ⟨(show cells + k60 ≤ K by omega), (show slots + n61 ≤ N by omega)⟩) (fun r59 M H locs hw1 hZ => ?_) (fun q M H locs ci fs E T9 N9 hw1 hZ hc1 hM1 hb1 => ?_)
        · replace hw := hw1
          clear hw1
          have hk : cells + k60 + (k - k60) ≤ K := by omega
          have hn : slots + n61 + (n - n61) ≤ N := by omega
          generalize cells + k60 = cells at hk ⊢
          generalize slots + n61 = slots at hn ⊢
          clear hk1 hn1
          exact wk_X12_write_L28 hG hP _ (fun {_ _ _ _ _} _z0 _z1 _z2 _z3 _z4 h1 h2 h3 h4 h5 => ih _z0 _z1 _z2 _z3 _z4 h1 h2 h3 h4 h5) _ _ _ _ _ hk hn hZ (lv_sub hl [0, 1, 2] rfl) hw
        · replace hw := hw1
          clear hw1
          exact z_out hG hZ hM1 hb1 hc1 za0 (by omega) (by omega) hw
      · obtain ⟨⟨ci0, fs0, hci0, hM0⟩, hw⟩ := hw
        obtain ⟨k63, n64, hk1, hn1, hw⟩ := hw
        obtain ⟨C0, T0, N0, ty0, hc0, hsel0⟩ : ∃ (C0 : String) (T0 : u_T) (N0 : Nat) (ty0 : Nat → FieldType), zCls ci0 C0 T0 N0 ty0 ∧ Cond.selects C0 ⟨"PluralBranches$Part", "write", "(LPluralBranches$Sheet;)V"⟩ yX18_write ∈ lw_all := (zal ⟨_, _, _, _, zc16, q1549⟩ (za0) : ∀ ci ∈ [16], ∃ (C0 : String) (T0 : u_T) (N0 : Nat) (ty0 : Nat → FieldType), zCls ci C0 T0 N0 ty0 ∧ Cond.selects C0 ⟨"PluralBranches$Part", "write", "(LPluralBranches$Sheet;)V"⟩ yX18_write ∈ lw_all) ci0 hci0
        refine z_callU hZ (vx_runU (As := [va_rf x1]) (rest := []) hC.fix (w_X18_write hlt hw) (va_cwA (owner := "PluralBranches$Part") (x := ⟨"PluralBranches$Part", "write", "(LPluralBranches$Sheet;)V"⟩) 1 hts (lw_app (zal q1400 (zal q1402 (zal hsel0 (zal q1550 (zal q97 za0))))) (lw_meth q1551)) rfl rfl rfl (hC.nw q1401 rfl) (by decide +kernel) ⟨(show 7 + 1 ≤ 9 + 2 * (d + 1) by omega), (show 8 + (2 + 11) + (199) ≤ 241 + 46 * (d + 1) by omega)⟩) (z_preV hC hZ hM0 hc0) rfl rfl hl.1 rfl (lv_room (Nat.zero_le _)) dX12_write_25 ⟨(show cells + k63 ≤ K by omega), (show slots + n64 ≤ N by omega)⟩) (fun r62 M H locs hw1 hZ => ?_) (fun q M H locs ci fs E T9 N9 hw1 hZ hc1 hM1 hb1 => ?_)
        · replace hw := hw1
          clear hw1
          have hk : cells + k63 + (k - k63) ≤ K := by omega
          have hn : slots + n64 + (n - n64) ≤ N := by omega
          generalize cells + k63 = cells at hk ⊢
          generalize slots + n64 = slots at hn ⊢
          clear hk1 hn1
          exact wk_X12_write_L28 hG hP _ (fun {_ _ _ _ _} _z0 _z1 _z2 _z3 _z4 h1 h2 h3 h4 h5 => ih _z0 _z1 _z2 _z3 _z4 h1 h2 h3 h4 h5) _ _ _ _ _ hk hn hZ (lv_sub hl [0, 1, 2] rfl) hw
        · replace hw := hw1
          clear hw1
          exact z_out hG hZ hM1 hb1 hc1 za0 (by omega) (by omega) hw
      · obtain ⟨⟨ci0, fs0, hci0, hM0⟩, hw⟩ := hw
        obtain ⟨k66, n67, hk1, hn1, hw⟩ := hw
        obtain ⟨C0, T0, N0, ty0, hc0, hsel0⟩ : ∃ (C0 : String) (T0 : u_T) (N0 : Nat) (ty0 : Nat → FieldType), zCls ci0 C0 T0 N0 ty0 ∧ Cond.selects C0 ⟨"PluralBranches$Part", "write", "(LPluralBranches$Sheet;)V"⟩ yX21_write ∈ lw_all := (zal ⟨_, _, _, _, zc18, q1539⟩ (za0) : ∀ ci ∈ [18], ∃ (C0 : String) (T0 : u_T) (N0 : Nat) (ty0 : Nat → FieldType), zCls ci C0 T0 N0 ty0 ∧ Cond.selects C0 ⟨"PluralBranches$Part", "write", "(LPluralBranches$Sheet;)V"⟩ yX21_write ∈ lw_all) ci0 hci0
        refine z_callU hZ (z_runUX (owner := "PluralBranches$Part") (x := ⟨"PluralBranches$Part", "write", "(LPluralBranches$Sheet;)V"⟩) (As := [va_rf x1]) (rest := []) hC.fix (w_X21_write hlt hP hw) 1 hts (lw_app (zal q1400 (zal q1402 (zal hsel0 (zal q1540 (zal q100 za0))))) (lw_methW q1541)) rfl rfl rfl (hC.nw q1401 rfl) (by decide +kernel) ⟨(show 10 + 2 * d + 1 ≤ 9 + 2 * (d + 1) by omega), (show 8 + (5 + 11) + (263 + 46 * d) ≤ 241 + 46 * (d + 1) by omega)⟩ (z_preV hC hZ hM0 hc0) rfl rfl hl.1 rfl (lv_room (Nat.zero_le _)) dX12_write_25 ⟨(show cells + k66 ≤ K by omega), (show slots + n67 ≤ N by omega)⟩) (fun r65 M H locs hw1 hZ => ?_) (fun q M H locs ci fs E T9 N9 hw1 hZ hc1 hM1 hb1 => ?_)
        · replace hw := hw1
          clear hw1
          have hk : cells + k66 + (k - k66) ≤ K := by omega
          have hn : slots + n67 + (n - n67) ≤ N := by omega
          generalize cells + k66 = cells at hk ⊢
          generalize slots + n67 = slots at hn ⊢
          clear hk1 hn1
          exact wk_X12_write_L28 hG hP _ (fun {_ _ _ _ _} _z0 _z1 _z2 _z3 _z4 h1 h2 h3 h4 h5 => ih _z0 _z1 _z2 _z3 _z4 h1 h2 h3 h4 h5) _ _ _ _ _ hk hn hZ (lv_sub hl [0, 1, 2] rfl) hw
        · replace hw := hw1
          clear hw1
          exact z_out hG hZ hM1 hb1 hc1 za0 (by omega) (by omega) hw
      · obtain ⟨⟨ci0, fs0, hci0, hM0⟩, hw⟩ := hw
        obtain ⟨k69, n70, hk1, hn1, hw⟩ := hw
        obtain ⟨C0, T0, N0, ty0, hc0, hsel0⟩ : ∃ (C0 : String) (T0 : u_T) (N0 : Nat) (ty0 : Nat → FieldType), zCls ci0 C0 T0 N0 ty0 ∧ Cond.selects C0 ⟨"PluralBranches$Part", "write", "(LPluralBranches$Sheet;)V"⟩ yX22_write ∈ lw_all := (zal ⟨_, _, _, _, zc19, q1403⟩ (za0) : ∀ ci ∈ [19], ∃ (C0 : String) (T0 : u_T) (N0 : Nat) (ty0 : Nat → FieldType), zCls ci C0 T0 N0 ty0 ∧ Cond.selects C0 ⟨"PluralBranches$Part", "write", "(LPluralBranches$Sheet;)V"⟩ yX22_write ∈ lw_all) ci0 hci0
        refine z_callU hZ (vx_runU (As := [va_rf x1]) (rest := []) hC.fix (w_X22_write hlt hP hw) (va_cwA (owner := "PluralBranches$Part") (x := ⟨"PluralBranches$Part", "write", "(LPluralBranches$Sheet;)V"⟩) 1 hts (lw_app (zal q1400 (zal q1402 (zal hsel0 (zal q1404 (zal q101 za0))))) (lw_meth q1405)) rfl rfl rfl (hC.nw q1401 rfl) (by decide +kernel) ⟨(show 10 + 2 * d + 1 ≤ 9 + 2 * (d + 1) by omega), (show 8 + (3 + 11) + (263 + 46 * d) ≤ 241 + 46 * (d + 1) by omega)⟩) (z_preV hC hZ hM0 hc0) rfl rfl hl.1 rfl (lv_room (Nat.zero_le _)) dX12_write_25 ⟨(show cells + k69 ≤ K by omega), (show slots + n70 ≤ N by omega)⟩) (fun r68 M H locs hw1 hZ => ?_) (fun q M H locs ci fs E T9 N9 hw1 hZ hc1 hM1 hb1 => ?_)
        · replace hw := hw1
          clear hw1
          have hk : cells + k69 + (k - k69) ≤ K := by omega
          have hn : slots + n70 + (n - n70) ≤ N := by omega
          generalize cells + k69 = cells at hk ⊢
          generalize slots + n70 = slots at hn ⊢
          clear hk1 hn1
          exact wk_X12_write_L28 hG hP _ (fun {_ _ _ _ _} _z0 _z1 _z2 _z3 _z4 h1 h2 h3 h4 h5 => ih _z0 _z1 _z2 _z3 _z4 h1 h2 h3 h4 h5) _ _ _ _ _ hk hn hZ (lv_sub hl [0, 1, 2] rfl) hw
        · replace hw := hw1
          clear hw1
          exact z_out hG hZ hM1 hb1 hc1 za0 (by omega) (by omega) hw
      · obtain ⟨⟨ci0, fs0, hci0, hM0⟩, hw⟩ := hw
        obtain ⟨C0, T0, N0, ty0, hc0, hsel0⟩ : ∃ (C0 : String) (T0 : u_T) (N0 : Nat) (ty0 : Nat → FieldType), zCls ci0 C0 T0 N0 ty0 ∧ Cond.selects C0 ⟨"PluralBranches$Part", "write", "(LPluralBranches$Sheet;)V"⟩ yX24_write ∈ lw_all := (zal ⟨_, _, _, _, zc21, q1588⟩ (za0) : ∀ ci ∈ [21], ∃ (C0 : String) (T0 : u_T) (N0 : Nat) (ty0 : Nat → FieldType), zCls ci C0 T0 N0 ty0 ∧ Cond.selects C0 ⟨"PluralBranches$Part", "write", "(LPluralBranches$Sheet;)V"⟩ yX24_write ∈ lw_all) ci0 hci0
        refine z_callU hZ (vx_runU (As := [va_rf x1]) (rest := []) hC.fix (w_X24_write hlt hw) (va_cwA (owner := "PluralBranches$Part") (x := ⟨"PluralBranches$Part", "write", "(LPluralBranches$Sheet;)V"⟩) 1 hts (lw_app (zal q1400 (zal q1402 (zal hsel0 (zal q1589 (zal q107 za0))))) (lw_meth q1590)) rfl rfl rfl (hC.nw q1401 rfl) (by decide +kernel) ⟨(show 2 + 1 ≤ 9 + 2 * (d + 1) by omega), (show 8 + (2 + 11) + (85) ≤ 241 + 46 * (d + 1) by omega)⟩) (z_preV hC hZ hM0 hc0) rfl rfl hl.1 rfl (lv_room (Nat.zero_le _)) dX12_write_25 ⟨(show cells + 0 ≤ K by omega), (show slots + 0 ≤ N by omega)⟩) (fun r71 M H locs hw1 hZ => ?_) (fun q M H locs ci fs E T9 N9 hw hZ hc1 hM1 hb1 => False.elim hw)
        replace hw := hw1
        clear hw1
        refine W.cs (cells' := cells) (slots' := slots) rfl rfl ?_
        exact wk_X12_write_L28 hG hP _ (fun {_ _ _ _ _} _z0 _z1 _z2 _z3 _z4 h1 h2 h3 h4 h5 => ih _z0 _z1 _z2 _z3 _z4 h1 h2 h3 h4 h5) _ _ _ _ _ hk hn hZ (lv_sub hl [0, 1, 2] rfl) hw
def wp_X12_write (D : zD) : Nat → (Unit → zM → Prop) → (Nat → zM → Prop) → Nat → Nat → Nat → Option Nat → zM → Prop
  | 0 => fun _ _ _ _ _ _ _ => False
  | d + 1 => fun post xp k n o a0 M =>
    (fun P => (∃ f, wp_X12_write_L2 D P post xp o f k n a0 (0 : Int32) M)) (wp_X12_write D d)
set_option maxHeartbeats 4000000 in
set_option maxRecDepth 100000 in
theorem w_X12_write {l : Launch} {D : zD} (hlt : l.stackTraces = false) : ∀ (d : Nat) (post : Unit → zM → Prop) (xp : Nat → zM → Prop) (k : Nat) (n : Nat) (o : Nat) (a0 : Option Nat) (M : zM), wp_X12_write D d post xp k n o a0 M → zMet l D yX12_write (ws_ yX12_write cX12_write 3 (none)) (rm_X12_write d k n) k n [.ref o, va_rf a0] M zU post xp := by
  intro d
  induction d with
  | zero =>
    intro post xp k n o a0 M hw
    exact absurd hw (fun h => h)
  | succ d ih =>
    intro post xp k n o a0 M hw
    have hP := ih
    replace hw : (fun (P : (Unit → zM → Prop) → (Nat → zM → Prop) → Nat → Nat → Nat → Option Nat → zM → Prop) => (∃ f, wp_X12_write_L2 D P post xp o f k n a0 (0 : Int32) M)) (wp_X12_write D d) := hw
    generalize wp_X12_write D d = P at hw hP
    replace hw : (∃ f, wp_X12_write_L2 D P post xp o f k n a0 (0 : Int32) M) := hw
    have hlv : lv_args 0 [.ref o, va_rf a0] = [(0, .ref o), (1, va_rf a0)] := (zargs1 rfl (zargs1 (zcat _) rfl))
    refine z_ofW hlt (by decide) (Nat.le_trans (zsl1 rfl (zsl1 (zcat _) (Nat.le_refl 0 : (lg_sl []).length ≤ 0))) (Nat.le_of_ble_eq_true rfl)) hlv ?_
    intro p e s m args below meth c ls hG hZ hl
    have hC := hG.1
    have hx := hC.x
    have hb := hC.b
    have hown := hC.o
    have hts := hC.ts
    have hlt := hG.2.2.2.2.2
    obtain ⟨cells, hce⟩ : ∃ z : Nat, z = 0 := ⟨0, rfl⟩
    obtain ⟨slots, hsl⟩ : ∃ z : Nat, z = 0 := ⟨0, rfl⟩
    refine W.cs (cells' := cells) (slots' := slots) hce.symm hsl.symm ?_
    have hk : cells + k ≤ k := by omega
    have hn : slots + n ≤ n := by omega
    clear hce hsl
    refine lv_iconst (v := 0) hx hb dX12_write_0 (by decide) ?_
    refine lv_istore_n (i := 2) (lv' := [(2, .int (0 : Int32)), (0, .ref o), (1, va_rf a0)]) hx hb dX12_write_1 rfl hl (by decide) (zfc rfl (zfk rfl (zfk (zfa rfl) rfl))) (fun ls hl1 => ?_)
    replace hl := hl1
    clear hl1
    obtain ⟨f1, hw⟩ := hw
    exact wk_X12_write_L2 hG hP f1 _ _ _ _ _ hk hn hZ (lv_sub hl [1, 2, 0] rfl) hw
abbrev rm_X0_write (K N : Nat) : Room := { frames := 22, cells := K, slots := N, locals := 539 }
def wp_X0_write_L14 (D : zD) (post : Int32 → zM → Prop) (o : Nat) (k : Nat) (n : Nat) (M : zM) : Prop :=
    post (-1 : Int32) M
set_option maxHeartbeats 4000000 in
set_option maxRecDepth 100000 in
theorem wk_X0_write_L14 {p : Program} {l : Launch} {e : Env} {s : State} {m : MethodId} {args : Array Value} {below : List Frame} {meth : Method} {c : Code} {D : zD} {post : Int32 → zM → Prop} {K N : Nat} {o : Nat} (hG : zGx p l s m args meth c cX0_write 5 "PluralBranches" D (some .int) "write" (tableOf [(46, 64, 65, 69)])) : ∀ {H : Heap} {locs : List Loc} {cells slots : Nat} {ls : Array Slot} (k : Nat) (n : Nat) (M : zM), cells + k ≤ K → slots + n ≤ N → zS D M H locs → lv_has ls 5 [] → wp_X0_write_L14 D post o k n M → W p l e (rm_X0_write K N) s m args below meth c H locs cells slots (vx_MQ below (zQ D zI post) (zX D (fun _ _ => False)) args s K N (zA D)) (F0 m 14 ls []) := by
  have hC := hG.1
  have hx := hC.x
  have hb := hC.b
  have hown := hC.o
  have hts := hC.ts
  have hlt := hG.2.2.2.2.2
  intro H locs cells slots ls k n M hk hn hZ hl hw
  refine lv_iconst (v := (-1)) hx hb dX0_write_14 (by decide) ?_
  exact z_iret hG hZ (by omega) (by omega) hw dX0_write_15
def wp_X0_write_L65 (D : zD) (post : Int32 → zM → Prop) (o : Nat) (k : Nat) (n : Nat) (y0 : Option Nat) (M : zM) : Prop :=
    ((zd y0 fun b1 => zgI M b1 13 6 fun g2 => post g2 M))
set_option maxHeartbeats 4000000 in
set_option maxRecDepth 100000 in
theorem wk_X0_write_L65 {p : Program} {l : Launch} {e : Env} {s : State} {m : MethodId} {args : Array Value} {below : List Frame} {meth : Method} {c : Code} {D : zD} {post : Int32 → zM → Prop} {K N : Nat} {o : Nat} (hG : zGx p l s m args meth c cX0_write 5 "PluralBranches" D (some .int) "write" (tableOf [(46, 64, 65, 69)])) : ∀ {H : Heap} {locs : List Loc} {cells slots : Nat} {ls : Array Slot} (k : Nat) (n : Nat) (y0 : Option Nat) (M : zM), cells + k ≤ K → slots + n ≤ N → zS D M H locs → lv_has ls 5 [] → wp_X0_write_L65 D post o k n y0 M → W p l e (rm_X0_write K N) s m args below meth c H locs cells slots (vx_MQ below (zQ D zI post) (zX D (fun _ _ => False)) args s K N (zA D)) (F0 m 65 ls [va_rf y0]) := by
  have hC := hG.1
  have hx := hC.x
  have hb := hC.b
  have hown := hC.o
  have hts := hC.ts
  have hlt := hG.2.2.2.2.2
  intro H locs cells slots ls k n y0 M hk hn hZ hl hw
  refine z_astore (i := 4) (lv' := [(4, va_rf y0)]) hC dX0_write_65 hl (by decide) rfl (fun ls hl1 => ?_)
  replace hl := hl1
  clear hl1
  refine z_aload hC dX0_write_67 (lv_at hl 0 rfl) ?_
  obtain ⟨b3, hr0, hw⟩ := hw
  subst hr0
  obtain ⟨fs0, g4, hM0, hx0, hw⟩ := hw
  refine z_getN hC hZ hM0 zc13 6 (by decide) q702 (fun _ h9 => h9) hx0 dX0_write_69 ?_
  exact z_iret hG hZ (by omega) (by omega) hw dX0_write_72
def wp_X0_write (D : zD) (post : Int32 → zM → Prop) (k : Nat) (n : Nat) (o : Nat) (a0 : Int32) (a1 : Int32) (M : zM) : Prop :=
    (wp_X0_isSlot D (fun r5 M => ((r5 = 0 → wp_X0_write_L14 D post o k n M) ∧ (¬ r5 = 0 → (wp_X0_isLanguage D (fun r8 M => ((¬ r8 = 0 → (zgR M o 0 5 fun g11 => ((zd g11 fun b12 => zaR M b12 8 a0 fun v13 => ((∀ b14 : Nat, v13 = some b14 → (znew D M 25 5 [.null, .int 0, .null, .null, .null] k n fun b15 M => (zgR M o 0 0 fun g16 => ((zd g16 fun b17 => zaR M b17 6 a1 fun v18 => (zgR M o 0 6 fun g19 => ((∃ k21 n22, k21 ≤ (k - 1) ∧ n22 ≤ (n - 5) ∧ wp_X28_init D (fun _ M => (zgR M o 0 5 fun g23 => ((zd g23 fun b24 => zaR M b24 8 a0 fun v25 => ((zd v25 fun b26 => zgR M b26 10 0 fun g27 => ((zd g27 fun b28 => (zis M b28 [11] ∧ (∃ k30 n31, k30 ≤ ((k - 1) - k21) ∧ n31 ≤ ((n - 5) - n22) ∧ wp_X12_write D 6 (fun _ M => ((zis M o [0] ∧ wp_X0_takes D (fun r32 M => post r32 M) o (some b15) M))) (fun q M => (∃ fs, M q = some (.inr (13, fs))) ∧ wp_X0_write_L65 D post o (((k - 1) - k21) - k30) (((n - 5) - n22) - n31) (some q) M) k30 n31 b28 (some b15) M)))))))))) k21 n22 b15 v18 g19 M)))))))) ∧ (v13 = none → post (-2 : Int32) M)))))) ∧ (r8 = 0 → wp_X0_write_L14 D post o k n M))) a1 M)))) a0 M)
set_option maxHeartbeats 4000000 in
set_option maxRecDepth 100000 in
theorem w_X0_write {l : Launch} {D : zD} {post : Int32 → zM → Prop} (hlt : l.stackTraces = false) {k : Nat} {n : Nat} {o : Nat} {a0 : Int32} {a1 : Int32} {M : zM} (hw : wp_X0_write D post k n o a0 a1 M) : zMet l D yX0_write (wsW_ yX0_write cX0_write 5 (some .int) [(46, 64, 65, 69)]) (rm_X0_write k n) k n [.ref o, .int a0, .int a1] M zI post (fun _ _ => False) := by
  unfold wp_X0_write at hw
  have hlv : lv_args 0 [.ref o, .int a0, .int a1] = [(0, .ref o), (1, .int a0), (2, .int a1)] := (zargs1 rfl (zargs1 rfl (zargs1 rfl rfl)))
  refine z_ofWH hlt (by decide) (Nat.le_trans (zsl1 rfl (zsl1 rfl (zsl1 rfl (Nat.le_refl 0 : (lg_sl []).length ≤ 0)))) (Nat.le_of_ble_eq_true rfl)) hlv ?_
  intro p e s m args below meth c ls hG hZ hl
  have hC := hG.1
  have hx := hC.x
  have hb := hC.b
  have hown := hC.o
  have hts := hC.ts
  have hlt := hG.2.2.2.2.2
  obtain ⟨cells, hce⟩ : ∃ z : Nat, z = 0 := ⟨0, rfl⟩
  obtain ⟨slots, hsl⟩ : ∃ z : Nat, z = 0 := ⟨0, rfl⟩
  refine W.cs (cells' := cells) (slots' := slots) hce.symm hsl.symm ?_
  have hk : cells + k ≤ k := by omega
  have hn : slots + n ≤ n := by omega
  clear hce hsl
  refine lv_iload_n hx hb dX0_write_0 rfl (lv_at hl 1 rfl) ?_
  refine z_callI hZ (vx_runS (As := [.int a0]) (rest := []) hC.fix (w_X0_isSlot hlt hw) (va_cwS 1 hts (lw_S q528 q529 q67 q530) rfl rfl rfl dd_X0_isSlot ⟨Nat.le_of_ble_eq_true rfl, Nat.le_of_ble_eq_true rfl⟩) (z_preS hC hZ) rfl rfl hl.1 rfl (lv_room (Nat.zero_le _)) dX0_write_1 ⟨(show cells + 0 ≤ k by omega), (show slots + 0 ≤ n by omega)⟩) (fun r37 M H locs hw1 hZ => ?_) (fun q M H locs ci fs E T9 N9 hw hZ hc1 hM1 hb1 => False.elim hw)
  replace hw := hw1
  clear hw1
  refine W.cs (cells' := cells) (slots' := slots) rfl rfl ?_
  refine lv_if_eq (tgt := 14) hx hb dX0_write_4 (by decide) (fun c68 => ?_) (fun c68 => ?_)
  · replace hw := hw.1 c68
    exact wk_X0_write_L14 hG _ _ _ hk hn hZ (lv_sub hl [] rfl) hw
  · replace hw := hw.2 c68
    refine lv_iload_n hx hb dX0_write_7 rfl (lv_at hl 2 rfl) ?_
    refine z_callI hZ (vx_runS (As := [.int a1]) (rest := []) hC.fix (w_X0_isLanguage hlt hw) (va_cwS 1 hts (lw_S q447 q448 q67 q449) rfl rfl rfl dd_X0_isLanguage ⟨Nat.le_of_ble_eq_true rfl, Nat.le_of_ble_eq_true rfl⟩) (z_preS hC hZ) rfl rfl hl.1 rfl (lv_room (Nat.zero_le _)) dX0_write_8 ⟨(show cells + 0 ≤ k by omega), (show slots + 0 ≤ n by omega)⟩) (fun r40 M H locs hw1 hZ => ?_) (fun q M H locs ci fs E T9 N9 hw hZ hc1 hM1 hb1 => False.elim hw)
    replace hw := hw1
    clear hw1
    refine W.cs (cells' := cells) (slots' := slots) rfl rfl ?_
    refine lv_if_ne (tgt := 16) hx hb dX0_write_11 (by decide) (fun c67 => ?_) (fun c67 => ?_)
    · replace hw := hw.1 c67
      refine lv_aload_n hx hb dX0_write_16 rfl (lv_at hl 0 rfl) ?_
      obtain ⟨fs0, g43, hM0, hx0, hw⟩ := hw
      refine z_get hC hZ hM0 zc0 5 (by decide) q406 (fun _ h9 => h9) hx0 dX0_write_17 ?_
      refine lv_iload_n hx hb dX0_write_20 rfl (lv_at hl 1 rfl) ?_
      obtain ⟨b44, hr0, hw⟩ := hw
      subst hr0
      obtain ⟨n0, f0, v45, hM0, hi0, hr0, hw⟩ := hw
      refine z_aald hC hZ hM0 (by decide) rfl hi0 hr0 dX0_write_21 ?_
      refine z_ifnonnull (tgt := 28) hC dX0_write_22 (by decide) (fun b46 hr0 => ?_) (fun hr0 => ?_)
      · replace hw := hw.1 b46 hr0
        subst hr0
        obtain ⟨hk1, hn1, hw⟩ := hw
        refine z_new (fs := [.null, .int 0, .null, .null, .null]) hC hZ zc25 q1365 q1366 q113 (zdefs (N := 5) (ty := tyX28) (fs := [.null, .int 0, .null, .null, .null]) (by decide)) (show cells + 1 ≤ k by omega) (show slots + 5 ≤ n by omega) dX0_write_28 (fun b47 H hq0 hq1 hZ => ?_)
        replace hw := hw b47 hq0 hq1
        generalize zu M _ _ = M at hw hZ
        have hk : cells + 1 + (k - 1) ≤ k := by omega
        have hn : slots + 5 + (n - 5) ≤ n := by omega
        generalize cells + 1 = cells at hk ⊢
        generalize slots + 5 = slots at hn ⊢
        clear hk1 hn1
        refine lv_dup hx hb dX0_write_31 rfl ?_
        refine lv_aload_n hx hb dX0_write_32 rfl (lv_at hl 0 rfl) ?_
        obtain ⟨fs0, g48, hM0, hx0, hw⟩ := hw
        refine z_get hC hZ hM0 zc0 0 (by decide) q399 (fun _ h9 => h9) hx0 dX0_write_33 ?_
        refine lv_iload_n hx hb dX0_write_36 rfl (lv_at hl 2 rfl) ?_
        obtain ⟨b49, hr0, hw⟩ := hw
        subst hr0
        obtain ⟨n0, f0, v50, hM0, hi0, hr0, hw⟩ := hw
        refine z_aald hC hZ hM0 (by decide) rfl hi0 hr0 dX0_write_37 ?_
        refine lv_aload_n hx hb dX0_write_38 rfl (lv_at hl 0 rfl) ?_
        obtain ⟨fs0, g51, hM0, hx0, hw⟩ := hw
        refine z_get hC hZ hM0 zc0 6 (by decide) q407 (fun _ h9 => h9) hx0 dX0_write_39 ?_
        obtain ⟨k53, n54, hk1, hn1, hw⟩ := hw
        refine z_callU hZ (vx_runI (As := [va_rf v50, va_rf g51]) (rest := [.ref b47]) hC.fix (w_X28_init hlt hw) (cwI 2 hts (lw_meth q1369) rfl rfl rfl (hts _ q113) (hts _ q1367) (hts _ q1368) rfl dd_X28_init ⟨Nat.le_of_ble_eq_true rfl, Nat.le_of_ble_eq_true rfl⟩) (z_preS hC hZ) rfl rfl hl.1 rfl (lv_room (Nat.le_trans (zrm1 rfl zrm0) (Nat.le_of_ble_eq_true rfl))) dX0_write_42 ⟨(show cells + k53 ≤ k by omega), (show slots + n54 ≤ n by omega)⟩) (fun r52 M H locs hw1 hZ => ?_) (fun q M H locs ci fs E T9 N9 hw hZ hc1 hM1 hb1 => False.elim hw)
        replace hw := hw1
        clear hw1
        have hk : cells + k53 + ((k - 1) - k53) ≤ k := by omega
        have hn : slots + n54 + ((n - 5) - n54) ≤ n := by omega
        generalize cells + k53 = cells at hk ⊢
        generalize slots + n54 = slots at hn ⊢
        clear hk1 hn1
        refine lv_astore_n (i := 3) (lv' := [(3, .ref b47), (0, .ref o), (1, .int a0), (2, .int a1)]) hx hb dX0_write_45 rfl hl (by decide) rfl (fun ls hl1 => ?_)
        replace hl := hl1
        clear hl1
        refine lv_aload_n hx hb dX0_write_46 rfl (lv_at hl 1 rfl) ?_
        obtain ⟨fs0, g55, hM0, hx0, hw⟩ := hw
        refine z_get hC hZ hM0 zc0 5 (by decide) q406 (fun _ h9 => h9) hx0 dX0_write_47 ?_
        refine lv_iload_n hx hb dX0_write_50 rfl (lv_at hl 2 rfl) ?_
        obtain ⟨b56, hr0, hw⟩ := hw
        subst hr0
        obtain ⟨n0, f0, v57, hM0, hi0, hr0, hw⟩ := hw
        refine z_aald hC hZ hM0 (by decide) rfl hi0 hr0 dX0_write_51 ?_
        obtain ⟨b58, hr0, hw⟩ := hw
        subst hr0
        obtain ⟨fs0, g59, hM0, hx0, hw⟩ := hw
        refine z_getN hC hZ hM0 zc10 0 (by decide) q547 (fun _ h9 => h9) hx0 dX0_write_52 ?_
        refine lv_aload_n hx hb dX0_write_55 rfl (lv_at hl 0 rfl) ?_
        obtain ⟨b60, hr0, hw⟩ := hw
        subst hr0
        obtain ⟨⟨ci0, fs0, hci0, hM0⟩, hw⟩ := hw
        obtain ⟨k62, n63, hk1, hn1, hw⟩ := hw
        obtain rfl : ci0 = 11 := List.mem_singleton.mp hci0
        refine z_callU hZ (vx_runV (As := [.ref b47]) (rest := []) hC.fix (w_X12_write hlt 6 _ _ _ _ _ _ _ hw) (cwV 1 hts (lw_V q1394 q1395 q1396 q88 q1397) rfl rfl rfl ⟨rfl, dd_X12_write⟩ ⟨(show 9 + 2 * 6 + 1 ≤ 22 by omega), (show 8 + (3 + 11) + (241 + 46 * 6) ≤ 539 by omega)⟩) (z_preV hC hZ hM0 zc11) rfl rfl hl.1 rfl (lv_room (Nat.zero_le _)) dX0_write_56 ⟨(show cells + k62 ≤ k by omega), (show slots + n63 ≤ n by omega)⟩) (fun r61 M H locs hw1 hZ => ?_) (fun q M H locs ci fs E T9 N9 hw1 hZ hc1 hM1 hb1 => ?_)
        · replace hw := hw1
          clear hw1
          have hk : cells + k62 + (((k - 1) - k53) - k62) ≤ k := by omega
          have hn : slots + n63 + (((n - 5) - n54) - n63) ≤ n := by omega
          generalize cells + k62 = cells at hk ⊢
          generalize slots + n63 = slots at hn ⊢
          clear hk1 hn1
          refine lv_aload_n hx hb dX0_write_59 rfl (lv_at hl 1 rfl) ?_
          refine lv_aload_n hx hb dX0_write_60 rfl (lv_at hl 0 rfl) ?_
          obtain ⟨⟨ci0, fs0, hci0, hM0⟩, hw⟩ := hw
          obtain rfl : ci0 = 0 := List.mem_singleton.mp hci0
          refine z_callI hZ (vx_runV (As := [.ref b47]) (rest := []) hC.fix (w_X0_takes hlt hw) (cwV 1 hts (lw_V q1597 q1599 qs26 q67 q1600) rfl rfl rfl ⟨rfl, dd_X0_takes⟩ ⟨Nat.le_of_ble_eq_true rfl, Nat.le_of_ble_eq_true rfl⟩) (z_preV hC hZ hM0 zc0) rfl rfl hl.1 rfl (lv_room (Nat.zero_le _)) dX0_write_61 ⟨(show cells + 0 ≤ k by omega), (show slots + 0 ≤ n by omega)⟩) (fun r64 M H locs hw1 hZ => ?_) (fun q M H locs ci fs E T9 N9 hw hZ hc1 hM1 hb1 => False.elim hw)
          replace hw := hw1
          clear hw1
          refine W.cs (cells' := cells) (slots' := slots) rfl rfl ?_
          exact z_iret hG hZ (by omega) (by omega) hw dX0_write_64
        · replace hw := hw1
          clear hw1
          have hk : cells + k62 + (((k - 1) - k53) - k62) ≤ k := by omega
          have hn : slots + n63 + (((n - 5) - n54) - n63) ≤ n := by omega
          generalize cells + k62 = cells at hk ⊢
          generalize slots + n63 = slots at hn ⊢
          clear hk1 hn1
          obtain ⟨⟨fs9, hM9⟩, hw⟩ := hw
          obtain ⟨rfl, rfl⟩ : ci = 13 ∧ fs = fs9 := by rw [hM9] at hM1; cases hM1; exact ⟨rfl, rfl⟩
          refine z_catch hG hZ hM1 hb1 zc13.1 (tableOf []) ⟨46, 64, 65, 69⟩ (tableOf []) rfl (by decide) (by decide) (by decide) q527 q650 ?_
          exact wk_X0_write_L65 hG _ _ _ _ hk hn hZ (lv_sub hl [] rfl) hw
      · replace hw := hw.2 hr0
        refine lv_bipush (v := (-2)) hx hb dX0_write_25 (by decide) ?_
        exact z_iret hG hZ (by omega) (by omega) hw dX0_write_27
    · replace hw := hw.2 c67
      exact wk_X0_write_L14 hG _ _ _ hk hn hZ (lv_sub hl [] rfl) hw
