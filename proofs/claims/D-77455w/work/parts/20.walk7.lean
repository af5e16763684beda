set_option maxRecDepth 100000
theorem dd_X0_takes : yX0_takes.cls ≠ "java/lang/invoke/MethodHandle" ∧ yX0_takes.cls ≠ "java/lang/invoke/VarHandle" ∧ (parseMethodDescriptor yX0_takes.desc).map (fun d => d.parameters.length) = some 1 := by decide +kernel
theorem dd_X12_depth : yX12_depth.cls ≠ "java/lang/invoke/MethodHandle" ∧ yX12_depth.cls ≠ "java/lang/invoke/VarHandle" ∧ (parseMethodDescriptor yX12_depth.desc).map (fun d => d.parameters.length) = some 0 := by decide +kernel
theorem dd_X19_wholes : yX19_wholes.cls ≠ "java/lang/invoke/MethodHandle" ∧ yX19_wholes.cls ≠ "java/lang/invoke/VarHandle" ∧ (parseMethodDescriptor yX19_wholes.desc).map (fun d => d.parameters.length) = some 2 := by decide +kernel
theorem dd_X19_write : yX19_write.cls ≠ "java/lang/invoke/MethodHandle" ∧ yX19_write.cls ≠ "java/lang/invoke/VarHandle" ∧ (parseMethodDescriptor yX19_write.desc).map (fun d => d.parameters.length) = some 2 := by decide +kernel
theorem dd_X1_rounded : yX1_rounded.cls ≠ "java/lang/invoke/MethodHandle" ∧ yX1_rounded.cls ≠ "java/lang/invoke/VarHandle" ∧ (parseMethodDescriptor yX1_rounded.desc).map (fun d => d.parameters.length) = some 1 := by decide +kernel
theorem dd_X28_init : yX28_init.cls ≠ "java/lang/invoke/MethodHandle" ∧ yX28_init.cls ≠ "java/lang/invoke/VarHandle" ∧ (parseMethodDescriptor yX28_init.desc).map (fun d => d.parameters.length) = some 2 := by decide +kernel
theorem dd_X28_number : yX28_number.cls ≠ "java/lang/invoke/MethodHandle" ∧ yX28_number.cls ≠ "java/lang/invoke/VarHandle" ∧ (parseMethodDescriptor yX28_number.desc).map (fun d => d.parameters.length) = some 2 := by decide +kernel
theorem dd_X28_put : yX28_put.cls ≠ "java/lang/invoke/MethodHandle" ∧ yX28_put.cls ≠ "java/lang/invoke/VarHandle" ∧ (parseMethodDescriptor yX28_put.desc).map (fun d => d.parameters.length) = some 1 := by decide +kernel
abbrev rm_X19_wholes : Room := { frames := 2, cells := 0, slots := 0, locals := 87 }
def wp_X19_wholes_L89 (D : zD) (post : Unit → zM → Prop) (o : Nat) (k35 : Int64 → Option Nat → Int32 → zM → Prop) (x1 : Int64) (x3 : Option Nat) (x5 : Int32) (M : zM) : Prop :=
    k35 x1 x3 (x5 + (-1)) M
set_option maxHeartbeats 4000000 in
set_option maxRecDepth 100000 in
theorem wk_X19_wholes_L89 {p : Program} {l : Launch} {e : Env} {s : State} {m : MethodId} {args : Array Value} {below : List Frame} {meth : Method} {c : Code} {D : zD} {post : Unit → zM → Prop} {o : Nat} (hG : zGx p l s m args meth c cX19_wholes 6 "PluralBranches$Pattern" D (none) "wholes" []) (k35 : Int64 → Option Nat → Int32 → zM → Prop) (hk35 : ∀ {H : Heap} {locs : List Loc} {cells slots : Nat} {ls : Array Slot} (x1 : Int64) (x3 : Option Nat) (x5 : Int32) (M : zM), cells ≤ 0 → slots ≤ 0 → zS D M H locs → lv_has ls 6 [(0, .ref o), (1, .long x1), (3, va_rf x3), (5, .int x5)] → k35 x1 x3 x5 M → W p l e rm_X19_wholes s m args below meth c H locs cells slots (vx_MQ below (zQ D zU post) (zX D (fun _ _ => False)) args s 0 0 (zA D)) (F0 m 35 ls [])) : ∀ {H : Heap} {locs : List Loc} {cells slots : Nat} {ls : Array Slot} (x1 : Int64) (x3 : Option Nat) (x5 : Int32) (M : zM), cells ≤ 0 → slots ≤ 0 → zS D M H locs → lv_has ls 6 [(0, .ref o), (1, .long x1), (3, va_rf x3), (5, .int x5)] → wp_X19_wholes_L89 D post o k35 x1 x3 x5 M → W p l e rm_X19_wholes s m args below meth c H locs cells slots (vx_MQ below (zQ D zU post) (zX D (fun _ _ => False)) args s 0 0 (zA D)) (F0 m 89 ls []) := by
  have hC := hG.1
  have hx := hC.x
  have hb := hC.b
  have hown := hC.o
  have hts := hC.ts
  have hlt := hG.2.2.2.2.2
  intro H locs cells slots ls x1 x3 x5 M hk hn hZ hl hw
  refine lv_iinc (v := (x5 + (-1))) (lv' := [(5, .int (x5 + (-1))), (0, .ref o), (1, .long x1), (3, va_rf x3)]) hx hb dX19_wholes_89 hl (k := 3) rfl rfl (by decide) rfl (fun ls hl1 => ?_)
  replace hl := hl1
  clear hl1
  refine lv_goto (tgt := 35) hx hb dX19_wholes_92 (by decide) ?_
  exact hk35 _ _ _ _ hk hn hZ (lv_sub hl [1, 2, 3, 0] rfl) hw
def wp_X19_wholes_L86 (D : zD) (post : Unit → zM → Prop) (o : Nat) (k35 : Int64 → Option Nat → Int32 → zM → Prop) (x1 : Int64) (x3 : Option Nat) (x5 : Int32) (y0 : Option Nat) (y1 : Int32) (M : zM) : Prop :=
    ((zd y0 fun b1 => (zis M b1 [25] ∧ wp_X28_put D (fun _ M => wp_X19_wholes_L89 D post o k35 x1 x3 x5 M) b1 y1 M)))
set_option maxHeartbeats 4000000 in
set_option maxRecDepth 100000 in
theorem wk_X19_wholes_L86 {p : Program} {l : Launch} {e : Env} {s : State} {m : MethodId} {args : Array Value} {below : List Frame} {meth : Method} {c : Code} {D : zD} {post : Unit → zM → Prop} {o : Nat} (hG : zGx p l s m args meth c cX19_wholes 6 "PluralBranches$Pattern" D (none) "wholes" []) (k35 : Int64 → Option Nat → Int32 → zM → Prop) (hk35 : ∀ {H : Heap} {locs : List Loc} {cells slots : Nat} {ls : Array Slot} (x1 : Int64) (x3 : Option Nat) (x5 : Int32) (M : zM), cells ≤ 0 → slots ≤ 0 → zS D M H locs → lv_has ls 6 [(0, .ref o), (1, .long x1), (3, va_rf x3), (5, .int x5)] → k35 x1 x3 x5 M → W p l e rm_X19_wholes s m args below meth c H locs cells slots (vx_MQ below (zQ D zU post) (zX D (fun _ _ => False)) args s 0 0 (zA D)) (F0 m 35 ls [])) : ∀ {H : Heap} {locs : List Loc} {cells slots : Nat} {ls : Array Slot} (x1 : Int64) (x3 : Option Nat) (x5 : Int32) (y0 : Option Nat) (y1 : Int32) (M : zM), cells ≤ 0 → slots ≤ 0 → zS D M H locs → lv_has ls 6 [(0, .ref o), (1, .long x1), (3, va_rf x3), (5, .int x5)] → wp_X19_wholes_L86 D post o k35 x1 x3 x5 y0 y1 M → W p l e rm_X19_wholes s m args below meth c H locs cells slots (vx_MQ below (zQ D zU post) (zX D (fun _ _ => False)) args s 0 0 (zA D)) (F0 m 86 ls [.int y1, va_rf y0]) := by
  have hC := hG.1
  have hx := hC.x
  have hb := hC.b
  have hown := hC.o
  have hts := hC.ts
  have hlt := hG.2.2.2.2.2
  intro H locs cells slots ls x1 x3 x5 y0 y1 M hk hn hZ hl hw
  obtain ⟨b5, hr0, hw⟩ := hw
  subst hr0
  obtain ⟨⟨ci0, fs0, hci0, hM0⟩, hw⟩ := hw
  obtain rfl : ci0 = 25 := List.mem_singleton.mp hci0
  refine z_callU hZ (vx_runV (As := [.int y1]) (rest := []) hC.fix (w_X28_put hlt hw) (cwV 1 hts (lw_V q1566 q1431 q1432 q113 q1433) rfl rfl rfl ⟨rfl, dd_X28_put⟩ ⟨Nat.le_of_ble_eq_true rfl, Nat.le_of_ble_eq_true rfl⟩) (z_preV hC hZ hM0 zc25) rfl rfl hl.1 rfl (lv_room (Nat.zero_le _)) dX19_wholes_86 ⟨hk, hn⟩) (fun r6 M H locs hw1 hZ => ?_) (fun q M H locs ci fs E T9 N9 hw hZ hc1 hM1 hb1 => False.elim hw)
  replace hw := hw1
  clear hw1
  refine W.cs (cells' := cells) (slots' := slots) rfl rfl ?_
  exact wk_X19_wholes_L89 hG k35 hk35 _ _ _ _ hk hn hZ (lv_sub hl [0, 1, 2, 3] rfl) hw
def wp_X19_wholes_L35 (D : zD) (post : Unit → zM → Prop) (o : Nat) : Nat → Int64 → Option Nat → Int32 → zM → Prop
  | 0 => fun _ _ _ _ => False
  | f + 1 => fun x1 x3 x5 M =>
    ((x5 < 0 → post () M) ∧ (¬ x5 < 0 → (wp_X0_tens D (fun r9 M => (¬ r9 = 0 ∧ ((zd x3 fun b12 => (zis M b12 [25] ∧ wp_X28_put D (fun _ M => (zgI M o 17 0 fun g16 => ((g16 = 0 → wp_X19_wholes_L89 D post o (wp_X19_wholes_L35 D post o f) x1 (some b12) x5 M) ∧ (¬ g16 = 0 → ((x5 ≤ 0 → wp_X19_wholes_L89 D post o (wp_X19_wholes_L35 D post o f) x1 (some b12) x5 M) ∧ (¬ x5 ≤ 0 → ((¬ (x5 - x5 / (3 : Int32) * (3 : Int32)) = 0 → wp_X19_wholes_L89 D post o (wp_X19_wholes_L35 D post o f) x1 (some b12) x5 M) ∧ ((x5 - x5 / (3 : Int32) * (3 : Int32)) = 0 → (zgR M b12 25 2 fun g17 => ((zd g17 fun b18 => ((zis M b18 [2, 4] ∧ wp_X2_group D (fun r19 M => wp_X19_wholes_L86 D post o (wp_X19_wholes_L35 D post o f) x1 (some b12) x5 (some b12) r19 M) b18 M) ∨ (zis M b18 [5] ∧ wp_X6_group D (fun r22 M => wp_X19_wholes_L86 D post o (wp_X19_wholes_L35 D post o f) x1 (some b12) x5 (some b12) r22 M) b18 M) ∨ (zis M b18 [6] ∧ wp_X7_group D (fun r25 M => wp_X19_wholes_L86 D post o (wp_X19_wholes_L35 D post o f) x1 (some b12) x5 (some b12) r25 M) b18 M))))))))))))) b12 ((48 : Int32) + (((x1 / r9) - (x1 / r9) / (10 : Int64) * (10 : Int64)).toInt32)) M))))) x5 M)))
set_option maxHeartbeats 4000000 in
set_option maxRecDepth 100000 in
theorem wk_X19_wholes_L35 {p : Program} {l : Launch} {e : Env} {s : State} {m : MethodId} {args : Array Value} {below : List Frame} {meth : Method} {c : Code} {D : zD} {post : Unit → zM → Prop} {o : Nat} (hG : zGx p l s m args meth c cX19_wholes 6 "PluralBranches$Pattern" D (none) "wholes" []) : ∀ (f : Nat), ∀ {H : Heap} {locs : List Loc} {cells slots : Nat} {ls : Array Slot} (x1 : Int64) (x3 : Option Nat) (x5 : Int32) (M : zM), cells ≤ 0 → slots ≤ 0 → zS D M H locs → lv_has ls 6 [(0, .ref o), (1, .long x1), (3, va_rf x3), (5, .int x5)] → wp_X19_wholes_L35 D post o f x1 x3 x5 M → W p l e rm_X19_wholes s m args below meth c H locs cells slots (vx_MQ below (zQ D zU post) (zX D (fun _ _ => False)) args s 0 0 (zA D)) (F0 m 35 ls []) := by
  have hC := hG.1
  have hx := hC.x
  have hb := hC.b
  have hown := hC.o
  have hts := hC.ts
  have hlt := hG.2.2.2.2.2
  intro f
  induction f with
  | zero =>
    intro H locs cells slots ls x1 x3 x5 M hk hn hZ hl hw
    exact absurd hw (fun h => h)
  | succ f ih =>
    intro H locs cells slots ls x1 x3 x5 M hk hn hZ hl hw
    refine lv_iload hx hb dX19_wholes_35 (lv_at hl 3 rfl) ?_
    refine lv_if_lt (tgt := 95) hx hb dX19_wholes_37 (by decide) (fun c54 => ?_) (fun c54 => ?_)
    · replace hw := hw.1 c54
      exact z_vret hG hZ hk hn hw dX19_wholes_95
    · replace hw := hw.2 c54
      refine z_aload_n hC dX19_wholes_40 rfl (lv_at hl 2 rfl) ?_
      refine lv_bipush (v := 48) hx hb dX19_wholes_41 (by decide) ?_
      refine lv_lload_n hx hb dX19_wholes_43 rfl (lv_at hl 1 rfl) ?_
      refine lv_iload hx hb dX19_wholes_44 (lv_at hl 3 rfl) ?_
      refine z_callL hZ (vx_runSN (As := [.int x5]) (rest := [.long x1, .int (48 : Int32), va_rf x3]) hC.fix (w_X0_tens hlt hw) ⟨va_cnB 1 hts (lw_meth q143) rfl rfl rfl (hC.nw q1568 rfl) (hts _ q67) dd_X0_tens ⟨Nat.le_of_ble_eq_true rfl, Nat.le_of_ble_eq_true rfl⟩, hts _ q142, trivial⟩ (z_preS hC hZ) rfl rfl hl.1 rfl (lv_room (Nat.le_trans (zrm2 rfl (zrm1 rfl (zrm1 (zcat _) zrm0))) (Nat.le_of_ble_eq_true rfl))) dX19_wholes_46 ⟨hk, hn⟩) (fun r32 M H locs hw1 hZ => ?_) (fun q M H locs ci fs E T9 N9 hw hZ hc1 hM1 hb1 => False.elim hw)
      replace hw := hw1
      clear hw1
      refine W.cs (cells' := cells) (slots' := slots) rfl rfl ?_
      obtain ⟨hz0, hw⟩ := hw
      refine lv_ldiv hx hb dX19_wholes_49 hz0 ?_
      refine lv_ldc2 hx hb hown (hts _ q1569) dX19_wholes_50 ?_
      refine lv_lrem hx hb dX19_wholes_53 (by decide) ?_
      refine lv_l2i hx hb dX19_wholes_54 rfl ?_
      refine lv_iadd hx hb dX19_wholes_55 ?_
      obtain ⟨b35, hr0, hw⟩ := hw
      subst hr0
      obtain ⟨⟨ci0, fs0, hci0, hM0⟩, hw⟩ := hw
      obtain rfl : ci0 = 25 := List.mem_singleton.mp hci0
      refine z_callU hZ (vx_runV (As := [.int ((48 : Int32) + (((x1 / r32) - (x1 / r32) / (10 : Int64) * (10 : Int64)).toInt32))]) (rest := []) hC.fix (w_X28_put hlt hw) (cwV 1 hts (lw_V q1566 q1431 q1432 q113 q1433) rfl rfl rfl ⟨rfl, dd_X28_put⟩ ⟨Nat.le_of_ble_eq_true rfl, Nat.le_of_ble_eq_true rfl⟩) (z_preV hC hZ hM0 zc25) rfl rfl hl.1 rfl (lv_room (Nat.zero_le _)) dX19_wholes_56 ⟨hk, hn⟩) (fun r36 M H locs hw1 hZ => ?_) (fun q M H locs ci fs E T9 N9 hw hZ hc1 hM1 hb1 => False.elim hw)
      replace hw := hw1
      clear hw1
      refine W.cs (cells' := cells) (slots' := slots) rfl rfl ?_
      refine lv_aload_n hx hb dX19_wholes_59 rfl (lv_at hl 0 rfl) ?_
      obtain ⟨fs0, g39, hM0, hx0, hw⟩ := hw
      refine z_get hC hZ hM0 zc17 0 (by decide) q779 (fun _ h9 => h9) hx0 dX19_wholes_60 ?_
      refine lv_if_eq (tgt := 89) hx hb dX19_wholes_63 (by decide) (fun c53 => ?_) (fun c53 => ?_)
      · replace hw := hw.1 c53
        exact wk_X19_wholes_L89 hG _ (fun {_ _ _ _ _} _z0 _z1 _z2 _z3 h1 h2 h3 h4 h5 => ih _z0 _z1 _z2 _z3 h1 h2 h3 h4 h5) _ _ _ _ hk hn hZ (lv_sub hl [0, 1, 2, 3] rfl) hw
      · replace hw := hw.2 c53
        refine lv_iload hx hb dX19_wholes_66 (lv_at hl 3 rfl) ?_
        refine lv_if_le (tgt := 89) hx hb dX19_wholes_68 (by decide) (fun c52 => ?_) (fun c52 => ?_)
        · replace hw := hw.1 c52
          exact wk_X19_wholes_L89 hG _ (fun {_ _ _ _ _} _z0 _z1 _z2 _z3 h1 h2 h3 h4 h5 => ih _z0 _z1 _z2 _z3 h1 h2 h3 h4 h5) _ _ _ _ hk hn hZ (lv_sub hl [0, 1, 2, 3] rfl) hw
        · replace hw := hw.2 c52
          refine lv_iload hx hb dX19_wholes_71 (lv_at hl 3 rfl) ?_
          refine lv_iconst (v := 3) hx hb dX19_wholes_73 (by decide) ?_
          refine lv_irem hx hb dX19_wholes_74 (by decide) ?_
          refine lv_if_ne (tgt := 89) hx hb dX19_wholes_75 (by decide) (fun c51 => ?_) (fun c51 => ?_)
          · replace hw := hw.1 c51
            exact wk_X19_wholes_L89 hG _ (fun {_ _ _ _ _} _z0 _z1 _z2 _z3 h1 h2 h3 h4 h5 => ih _z0 _z1 _z2 _z3 h1 h2 h3 h4 h5) _ _ _ _ hk hn hZ (lv_sub hl [0, 1, 2, 3] rfl) hw
          · replace hw := hw.2 c51
            refine lv_aload_n hx hb dX19_wholes_78 rfl (lv_at hl 2 rfl) ?_
            refine lv_aload_n hx hb dX19_wholes_79 rfl (lv_at hl 2 rfl) ?_
            obtain ⟨fs0, g40, hM0, hx0, hw⟩ := hw
            refine z_getN hC hZ hM0 zc25 2 (by decide) q1376 (fun _ h9 => h9) hx0 dX19_wholes_80 ?_
            obtain ⟨b41, hr0, hw⟩ := hw
            subst hr0
            rcases hw with hw | hw | hw
            · obtain ⟨⟨ci0, fs0, hci0, hM0⟩, hw⟩ := hw
              obtain ⟨C0, T0, N0, ty0, hc0, hsel0⟩ : ∃ (C0 : String) (T0 : u_T) (N0 : Nat) (ty0 : Nat → FieldType), zCls ci0 C0 T0 N0 ty0 ∧ Cond.selects C0 ⟨"PluralBranches$Language", "group", "()I"⟩ yX2_group ∈ lw_all := (zal ⟨_, _, _, _, zc2, q1581⟩ (zal ⟨_, _, _, _, zc4, q1580⟩ (za0)) : ∀ ci ∈ [2, 4], ∃ (C0 : String) (T0 : u_T) (N0 : Nat) (ty0 : Nat → FieldType), zCls ci C0 T0 N0 ty0 ∧ Cond.selects C0 ⟨"PluralBranches$Language", "group", "()I"⟩ yX2_group ∈ lw_all) ci0 hci0
              refine z_callI hZ (vx_runU (As := []) (rest := [.ref b35]) hC.fix (w_X2_group hlt hw) (va_cwU (owner := "PluralBranches$Language") (x := ⟨"PluralBranches$Language", "group", "()I"⟩) 0 hts (lw_app (zal q1574 (zal q1576 (zal hsel0 (zal q1575 (zal q70 za0))))) (lw_meth q1585)) rfl rfl rfl rfl (by decide +kernel) ⟨Nat.le_of_ble_eq_true rfl, Nat.le_of_ble_eq_true rfl⟩) (z_preV hC hZ hM0 hc0) rfl rfl hl.1 rfl (lv_room (Nat.le_trans (zrm1 rfl zrm0) (Nat.le_of_ble_eq_true rfl))) dX19_wholes_83 ⟨hk, hn⟩) (fun r42 M H locs hw1 hZ => ?_) (fun q M H locs ci fs E T9 N9 hw hZ hc1 hM1 hb1 => False.elim hw)
              replace hw := hw1
              clear hw1
              refine W.cs (cells' := cells) (slots' := slots) rfl rfl ?_
              exact wk_X19_wholes_L86 hG _ (fun {_ _ _ _ _} _z0 _z1 _z2 _z3 h1 h2 h3 h4 h5 => ih _z0 _z1 _z2 _z3 h1 h2 h3 h4 h5) _ _ _ _ _ _ hk hn hZ (lv_sub hl [0, 1, 2, 3] rfl) hw
            · obtain ⟨⟨ci0, fs0, hci0, hM0⟩, hw⟩ := hw
              obtain ⟨C0, T0, N0, ty0, hc0, hsel0⟩ : ∃ (C0 : String) (T0 : u_T) (N0 : Nat) (ty0 : Nat → FieldType), zCls ci0 C0 T0 N0 ty0 ∧ Cond.selects C0 ⟨"PluralBranches$Language", "group", "()I"⟩ yX6_group ∈ lw_all := (zal ⟨_, _, _, _, zc5, q1577⟩ (za0) : ∀ ci ∈ [5], ∃ (C0 : String) (T0 : u_T) (N0 : Nat) (ty0 : Nat → FieldType), zCls ci C0 T0 N0 ty0 ∧ Cond.selects C0 ⟨"PluralBranches$Language", "group", "()I"⟩ yX6_group ∈ lw_all) ci0 hci0
              refine z_callI hZ (vx_runU (As := []) (rest := [.ref b35]) hC.fix (w_X6_group hlt hw) (va_cwO (owner := "PluralBranches$Language") (x := ⟨"PluralBranches$Language", "group", "()I"⟩) 0 hts (lw_app (zal q1574 (zal q1576 (zal q1575 (zal hsel0 (zal q1578 (zal q80 za0)))))) (lw_meth q1579)) rfl rfl rfl q1585 (by decide +kernel) ⟨Nat.le_of_ble_eq_true rfl, Nat.le_of_ble_eq_true rfl⟩) (z_preV hC hZ hM0 hc0) rfl rfl hl.1 rfl (lv_room (Nat.le_trans (zrm1 rfl zrm0) (Nat.le_of_ble_eq_true rfl))) dX19_wholes_83 ⟨hk, hn⟩) (fun r45 M H locs hw1 hZ => ?_) (fun q M H locs ci fs E T9 N9 hw hZ hc1 hM1 hb1 => False.elim hw)
              replace hw := hw1
              clear hw1
              refine W.cs (cells' := cells) (slots' := slots) rfl rfl ?_
              exact wk_X19_wholes_L86 hG _ (fun {_ _ _ _ _} _z0 _z1 _z2 _z3 h1 h2 h3 h4 h5 => ih _z0 _z1 _z2 _z3 h1 h2 h3 h4 h5) _ _ _ _ _ _ hk hn hZ (lv_sub hl [0, 1, 2, 3] rfl) hw
            · obtain ⟨⟨ci0, fs0, hci0, hM0⟩, hw⟩ := hw
              obtain ⟨C0, T0, N0, ty0, hc0, hsel0⟩ : ∃ (C0 : String) (T0 : u_T) (N0 : Nat) (ty0 : Nat → FieldType), zCls ci0 C0 T0 N0 ty0 ∧ Cond.selects C0 ⟨"PluralBranches$Language", "group", "()I"⟩ yX7_group ∈ lw_all := (zal ⟨_, _, _, _, zc6, q1582⟩ (za0) : ∀ ci ∈ [6], ∃ (C0 : String) (T0 : u_T) (N0 : Nat) (ty0 : Nat → FieldType), zCls ci C0 T0 N0 ty0 ∧ Cond.selects C0 ⟨"PluralBranches$Language", "group", "()I"⟩ yX7_group ∈ lw_all) ci0 hci0
              refine z_callI hZ (vx_runU (As := []) (rest := [.ref b35]) hC.fix (w_X7_group hlt hw) (va_cwO (owner := "PluralBranches$Language") (x := ⟨"PluralBranches$Language", "group", "()I"⟩) 0 hts (lw_app (zal q1574 (zal q1576 (zal q1575 (zal hsel0 (zal q1583 (zal q81 za0)))))) (lw_meth q1584)) rfl rfl rfl q1585 (by decide +kernel) ⟨Nat.le_of_ble_eq_true rfl, Nat.le_of_ble_eq_true rfl⟩) (z_preV hC hZ hM0 hc0) rfl rfl hl.1 rfl (lv_room (Nat.le_trans (zrm1 rfl zrm0) (Nat.le_of_ble_eq_true rfl))) dX19_wholes_83 ⟨hk, hn⟩) (fun r48 M H locs hw1 hZ => ?_) (fun q M H locs ci fs E T9 N9 hw hZ hc1 hM1 hb1 => False.elim hw)
              replace hw := hw1
              clear hw1
              refine W.cs (cells' := cells) (slots' := slots) rfl rfl ?_
              exact wk_X19_wholes_L86 hG _ (fun {_ _ _ _ _} _z0 _z1 _z2 _z3 h1 h2 h3 h4 h5 => ih _z0 _z1 _z2 _z3 h1 h2 h3 h4 h5) _ _ _ _ _ _ hk hn hZ (lv_sub hl [0, 1, 2, 3] rfl) hw
def wp_X19_wholes_L29 (D : zD) (post : Unit → zM → Prop) (o : Nat) (x1 : Int64) (x3 : Option Nat) (x4 : Int32) (M : zM) : Prop :=
    (∃ f, wp_X19_wholes_L35 D post o f x1 x3 (x4 - (1 : Int32)) M)
set_option maxHeartbeats 4000000 in
set_option maxRecDepth 100000 in
theorem wk_X19_wholes_L29 {p : Program} {l : Launch} {e : Env} {s : State} {m : MethodId} {args : Array Value} {below : List Frame} {meth : Method} {c : Code} {D : zD} {post : Unit → zM → Prop} {o : Nat} (hG : zGx p l s m args meth c cX19_wholes 6 "PluralBranches$Pattern" D (none) "wholes" []) : ∀ {H : Heap} {locs : List Loc} {cells slots : Nat} {ls : Array Slot} (x1 : Int64) (x3 : Option Nat) (x4 : Int32) (M : zM), cells ≤ 0 → slots ≤ 0 → zS D M H locs → lv_has ls 6 [(0, .ref o), (1, .long x1), (3, va_rf x3), (4, .int x4)] → wp_X19_wholes_L29 D post o x1 x3 x4 M → W p l e rm_X19_wholes s m args below meth c H locs cells slots (vx_MQ below (zQ D zU post) (zX D (fun _ _ => False)) args s 0 0 (zA D)) (F0 m 29 ls []) := by
  have hC := hG.1
  have hx := hC.x
  have hb := hC.b
  have hown := hC.o
  have hts := hC.ts
  have hlt := hG.2.2.2.2.2
  intro H locs cells slots ls x1 x3 x4 M hk hn hZ hl hw
  refine lv_iload hx hb dX19_wholes_29 (lv_at hl 3 rfl) ?_
  refine lv_iconst (v := 1) hx hb dX19_wholes_31 (by decide) ?_
  refine lv_isub hx hb dX19_wholes_32 ?_
  refine lv_istore (i := 5) (lv' := [(5, .int (x4 - (1 : Int32))), (0, .ref o), (1, .long x1), (3, va_rf x3), (4, .int x4)]) hx hb dX19_wholes_33 hl (by decide) rfl (fun ls hl1 => ?_)
  replace hl := hl1
  clear hl1
  obtain ⟨f1, hw⟩ := hw
  exact wk_X19_wholes_L35 hG f1 _ _ _ _ hk hn hZ (lv_sub hl [1, 2, 3, 0] rfl) hw
def wp_X19_wholes_L6 (D : zD) (post : Unit → zM → Prop) (o : Nat) : Nat → Int64 → Option Nat → Int32 → zM → Prop
  | 0 => fun _ _ _ _ => False
  | f + 1 => fun x1 x3 x4 M =>
    (((18 : Int32) ≤ x4 → wp_X19_wholes_L29 D post o x1 x3 x4 M) ∧ (¬ (18 : Int32) ≤ x4 → (wp_X0_tens D (fun r55 M => (((lg_cmp x1 r55) < 0 → wp_X19_wholes_L29 D post o x1 x3 x4 M) ∧ (¬ (lg_cmp x1 r55) < 0 → wp_X19_wholes_L6 D post o f x1 x3 (x4 + 1) M))) x4 M)))
set_option maxHeartbeats 4000000 in
set_option maxRecDepth 100000 in
theorem wk_X19_wholes_L6 {p : Program} {l : Launch} {e : Env} {s : State} {m : MethodId} {args : Array Value} {below : List Frame} {meth : Method} {c : Code} {D : zD} {post : Unit → zM → Prop} {o : Nat} (hG : zGx p l s m args meth c cX19_wholes 6 "PluralBranches$Pattern" D (none) "wholes" []) : ∀ (f : Nat), ∀ {H : Heap} {locs : List Loc} {cells slots : Nat} {ls : Array Slot} (x1 : Int64) (x3 : Option Nat) (x4 : Int32) (M : zM), cells ≤ 0 → slots ≤ 0 → zS D M H locs → lv_has ls 6 [(0, .ref o), (1, .long x1), (3, va_rf x3), (4, .int x4)] → wp_X19_wholes_L6 D post o f x1 x3 x4 M → W p l e rm_X19_wholes s m args below meth c H locs cells slots (vx_MQ below (zQ D zU post) (zX D (fun _ _ => False)) args s 0 0 (zA D)) (F0 m 6 ls []) := by
  have hC := hG.1
  have hx := hC.x
  have hb := hC.b
  have hown := hC.o
  have hts := hC.ts
  have hlt := hG.2.2.2.2.2
  intro f
  induction f with
  | zero =>
    intro H locs cells slots ls x1 x3 x4 M hk hn hZ hl hw
    exact absurd hw (fun h => h)
  | succ f ih =>
    intro H locs cells slots ls x1 x3 x4 M hk hn hZ hl hw
    refine lv_iload hx hb dX19_wholes_6 (lv_at hl 3 rfl) ?_
    refine lv_bipush (v := 18) hx hb dX19_wholes_8 (by decide) ?_
    refine lv_icmp_ge (tgt := 29) hx hb dX19_wholes_10 (by decide) (fun c64 => ?_) (fun c64 => ?_)
    · replace hw := hw.1 c64
      exact wk_X19_wholes_L29 hG _ _ _ _ hk hn hZ (lv_sub hl [0, 1, 2, 3] rfl) hw
    · replace hw := hw.2 c64
      refine lv_lload_n hx hb dX19_wholes_13 rfl (lv_at hl 1 rfl) ?_
      refine lv_iload hx hb dX19_wholes_14 (lv_at hl 3 rfl) ?_
      refine z_callL hZ (vx_runSN (As := [.int x4]) (rest := [.long x1]) hC.fix (w_X0_tens hlt hw) ⟨va_cnB 1 hts (lw_meth q143) rfl rfl rfl (hC.nw q1568 rfl) (hts _ q67) dd_X0_tens ⟨Nat.le_of_ble_eq_true rfl, Nat.le_of_ble_eq_true rfl⟩, hts _ q142, trivial⟩ (z_preS hC hZ) rfl rfl hl.1 rfl (lv_room (Nat.le_trans (zrm2 rfl zrm0) (Nat.le_of_ble_eq_true rfl))) dX19_wholes_16 ⟨hk, hn⟩) (fun r60 M H locs hw1 hZ => ?_) (fun q M H locs ci fs E T9 N9 hw hZ hc1 hM1 hb1 => False.elim hw)
      replace hw := hw1
      clear hw1
      refine W.cs (cells' := cells) (slots' := slots) rfl rfl ?_
      refine W.lcmp hx hb dX19_wholes_19 ?_
      refine lv_if_lt (tgt := 29) hx hb dX19_wholes_20 (by decide) (fun c63 => ?_) (fun c63 => ?_)
      · replace hw := hw.1 c63
        exact wk_X19_wholes_L29 hG _ _ _ _ hk hn hZ (lv_sub hl [0, 1, 2, 3] rfl) hw
      · replace hw := hw.2 c63
        refine lv_iinc (v := (x4 + 1)) (lv' := [(4, .int (x4 + 1)), (0, .ref o), (1, .long x1), (3, va_rf x3)]) hx hb dX19_wholes_23 hl (k := 3) rfl rfl (by decide) (zfc rfl (zfk rfl (zfk rfl (zfk (zfa rfl) (zfd rfl rfl))))) (fun ls hl1 => ?_)
        replace hl := hl1
        clear hl1
        refine lv_goto (tgt := 6) hx hb dX19_wholes_26 (by decide) ?_
        exact ih _ _ _ _ hk hn hZ (lv_sub hl [1, 2, 3, 0] rfl) hw
def wp_X19_wholes (D : zD) (post : Unit → zM → Prop) (o : Nat) (a0 : Int64) (a1 : Option Nat) (M : zM) : Prop :=
    (zgI M o 17 1 fun g65 => (∃ f, wp_X19_wholes_L6 D post o f a0 a1 g65 M))
set_option maxHeartbeats 4000000 in
set_option maxRecDepth 100000 in
theorem w_X19_wholes {l : Launch} {D : zD} {post : Unit → zM → Prop} (hlt : l.stackTraces = false) {o : Nat} {a0 : Int64} {a1 : Option Nat} {M : zM} (hw : wp_X19_wholes D post o a0 a1 M) : zMet l D yX19_wholes (ws_ yX19_wholes cX19_wholes 6 (none)) rm_X19_wholes 0 0 [.ref o, .long a0, va_rf a1] M zU post (fun _ _ => False) := by
  unfold wp_X19_wholes at hw
  have hlv : lv_args 0 [.ref o, .long a0, va_rf a1] = [(0, .ref o), (1, .long a0), (3, va_rf a1)] := (zargs1 rfl (zargs2 rfl (zargs1 (zcat _) rfl)))
  refine z_ofW hlt (by decide) (Nat.le_trans (zsl1 rfl (zsl2 rfl (zsl1 (zcat _) (Nat.le_refl 0 : (lg_sl []).length ≤ 0)))) (Nat.le_of_ble_eq_true rfl)) hlv ?_
  intro p e s m args below meth c ls hG hZ hl
  have hC := hG.1
  have hx := hC.x
  have hb := hC.b
  have hown := hC.o
  have hts := hC.ts
  have hlt := hG.2.2.2.2.2
  obtain ⟨cells, hce⟩ : ∃ z : Nat, z = 0 := ⟨0, rfl⟩
  obtain ⟨slots, hsl⟩ : ∃ z : Nat, z = 0 := ⟨0, rfl⟩
  refine W.cs (cells' := cells) (slots' := slots) hce.symm hsl.symm ?_
  have hk : cells ≤ 0 := Nat.le_of_eq hce
  have hn : slots ≤ 0 := Nat.le_of_eq hsl
  clear hce hsl
  refine lv_aload_n hx hb dX19_wholes_0 rfl (lv_at hl 0 rfl) ?_
  obtain ⟨fs0, g66, hM0, hx0, hw⟩ := hw
  refine z_get hC hZ hM0 zc17 1 (by decide) q780 (fun _ h9 => h9) hx0 dX19_wholes_1 ?_
  refine lv_istore (i := 4) (lv' := [(4, .int g66), (0, .ref o), (1, .long a0), (3, va_rf a1)]) hx hb dX19_wholes_4 hl (by decide) (zfc rfl (zfk rfl (zfk rfl (zfk (zfa rfl) rfl)))) (fun ls hl1 => ?_)
  replace hl := hl1
  clear hl1
  obtain ⟨f1, hw⟩ := hw
  exact wk_X19_wholes_L6 hG f1 _ _ _ _ hk hn hZ (lv_sub hl [1, 2, 3, 0] rfl) hw
abbrev rm_X2_point : Room := { frames := 1, cells := 0, slots := 0, locals := 64 }
def wp_X2_point (D : zD) (post : Int32 → zM → Prop) (o : Nat) (M : zM) : Prop :=
    post (44 : Int32) M
set_option maxHeartbeats 4000000 in
set_option maxRecDepth 100000 in
theorem w_X2_point {l : Launch} {D : zD} {post : Int32 → zM → Prop} (hlt : l.stackTraces = false) {o : Nat} {M : zM} (hw : wp_X2_point D post o M) : zMet l D yX2_point (ws_ yX2_point cX2_point 1 (some .int)) rm_X2_point 0 0 [.ref o] M zI post (fun _ _ => False) := by
  unfold wp_X2_point at hw
  have hlv : lv_args 0 [.ref o] = [(0, .ref o)] := (zargs1 rfl rfl)
  refine z_ofW hlt (by decide) (Nat.le_trans (zsl1 rfl (Nat.le_refl 0 : (lg_sl []).length ≤ 0)) (Nat.le_of_ble_eq_true rfl)) hlv ?_
  intro p e s m args below meth c ls hG hZ hl
  have hC := hG.1
  have hx := hC.x
  have hb := hC.b
  have hown := hC.o
  have hts := hC.ts
  have hlt := hG.2.2.2.2.2
  obtain ⟨cells, hce⟩ : ∃ z : Nat, z = 0 := ⟨0, rfl⟩
  obtain ⟨slots, hsl⟩ : ∃ z : Nat, z = 0 := ⟨0, rfl⟩
  refine W.cs (cells' := cells) (slots' := slots) hce.symm hsl.symm ?_
  have hk : cells ≤ 0 := Nat.le_of_eq hce
  have hn : slots ≤ 0 := Nat.le_of_eq hsl
  clear hce hsl
  refine lv_bipush (v := 44) hx hb dX2_point_0 (by decide) ?_
  exact z_iret hG hZ hk hn hw dX2_point_2
abbrev rm_X6_point : Room := { frames := 1, cells := 0, slots := 0, locals := 64 }
def wp_X6_point (D : zD) (post : Int32 → zM → Prop) (o : Nat) (M : zM) : Prop :=
    post (46 : Int32) M
set_option maxHeartbeats 4000000 in
set_option maxRecDepth 100000 in
theorem w_X6_point {l : Launch} {D : zD} {post : Int32 → zM → Prop} (hlt : l.stackTraces = false) {o : Nat} {M : zM} (hw : wp_X6_point D post o M) : zMet l D yX6_point (ws_ yX6_point cX6_point 1 (some .int)) rm_X6_point 0 0 [.ref o] M zI post (fun _ _ => False) := by
  unfold wp_X6_point at hw
  have hlv : lv_args 0 [.ref o] = [(0, .ref o)] := (zargs1 rfl rfl)
  refine z_ofW hlt (by decide) (Nat.le_trans (zsl1 rfl (Nat.le_refl 0 : (lg_sl []).length ≤ 0)) (Nat.le_of_ble_eq_true rfl)) hlv ?_
  intro p e s m args below meth c ls hG hZ hl
  have hC := hG.1
  have hx := hC.x
  have hb := hC.b
  have hown := hC.o
  have hts := hC.ts
  have hlt := hG.2.2.2.2.2
  obtain ⟨cells, hce⟩ : ∃ z : Nat, z = 0 := ⟨0, rfl⟩
  obtain ⟨slots, hsl⟩ : ∃ z : Nat, z = 0 := ⟨0, rfl⟩
  refine W.cs (cells' := cells) (slots' := slots) hce.symm hsl.symm ?_
  have hk : cells ≤ 0 := Nat.le_of_eq hce
  have hn : slots ≤ 0 := Nat.le_of_eq hsl
  clear hce hsl
  refine lv_bipush (v := 46) hx hb dX6_point_0 (by decide) ?_
  exact z_iret hG hZ hk hn hw dX6_point_2
abbrev rm_X7_point : Room := { frames := 1, cells := 0, slots := 0, locals := 64 }
def wp_X7_point (D : zD) (post : Int32 → zM → Prop) (o : Nat) (M : zM) : Prop :=
    post (46 : Int32) M
set_option maxHeartbeats 4000000 in
set_option maxRecDepth 100000 in
theorem w_X7_point {l : Launch} {D : zD} {post : Int32 → zM → Prop} (hlt : l.stackTraces = false) {o : Nat} {M : zM} (hw : wp_X7_point D post o M) : zMet l D yX7_point (ws_ yX7_point cX7_point 1 (some .int)) rm_X7_point 0 0 [.ref o] M zI post (fun _ _ => False) := by
  unfold wp_X7_point at hw
  have hlv : lv_args 0 [.ref o] = [(0, .ref o)] := (zargs1 rfl rfl)
  refine z_ofW hlt (by decide) (Nat.le_trans (zsl1 rfl (Nat.le_refl 0 : (lg_sl []).length ≤ 0)) (Nat.le_of_ble_eq_true rfl)) hlv ?_
  intro p e s m args below meth c ls hG hZ hl
  have hC := hG.1
  have hx := hC.x
  have hb := hC.b
  have hown := hC.o
  have hts := hC.ts
  have hlt := hG.2.2.2.2.2
  obtain ⟨cells, hce⟩ : ∃ z : Nat, z = 0 := ⟨0, rfl⟩
  obtain ⟨slots, hsl⟩ : ∃ z : Nat, z = 0 := ⟨0, rfl⟩
  refine W.cs (cells' := cells) (slots' := slots) hce.symm hsl.symm ?_
  have hk : cells ≤ 0 := Nat.le_of_eq hce
  have hn : slots ≤ 0 := Nat.le_of_eq hsl
  clear hce hsl
  refine lv_bipush (v := 46) hx hb dX7_point_0 (by decide) ?_
  exact z_iret hG hZ hk hn hw dX7_point_2
abbrev rm_X28_number : Room := { frames := 2, cells := 0, slots := 0, locals := 87 }
def wp_X28_number_L36 (D : zD) (post : Unit → zM → Prop) (o : Nat) : Nat → Int64 → Int32 → zM → Prop
  | 0 => fun _ _ _ => False
  | f + 1 => fun x1 x5 M =>
    ((x5 < 0 → post () M) ∧ (¬ x5 < 0 → (wp_X0_tens D (fun r1 M => (¬ r1 = 0 ∧ ((zis M o [25] ∧ wp_X28_put D (fun _ M => wp_X28_number_L36 D post o f x1 (x5 + (-1)) M) o ((48 : Int32) + (((x1 / r1) - (x1 / r1) / (10 : Int64) * (10 : Int64)).toInt32)) M)))) x5 M)))
set_option maxHeartbeats 4000000 in
set_option maxRecDepth 100000 in
theorem wk_X28_number_L36 {p : Program} {l : Launch} {e : Env} {s : State} {m : MethodId} {args : Array Value} {below : List Frame} {meth : Method} {c : Code} {D : zD} {post : Unit → zM → Prop} {o : Nat} (hG : zGx p l s m args meth c cX28_number 6 "PluralBranches$Sheet" D (none) "number" []) : ∀ (f : Nat), ∀ {H : Heap} {locs : List Loc} {cells slots : Nat} {ls : Array Slot} (x1 : Int64) (x5 : Int32) (M : zM), cells ≤ 0 → slots ≤ 0 → zS D M H locs → lv_has ls 6 [(0, .ref o), (1, .long x1), (5, .int x5)] → wp_X28_number_L36 D post o f x1 x5 M → W p l e rm_X28_number s m args below meth c H locs cells slots (vx_MQ below (zQ D zU post) (zX D (fun _ _ => False)) args s 0 0 (zA D)) (F0 m 36 ls []) := by
  have hC := hG.1
  have hx := hC.x
  have hb := hC.b
  have hown := hC.o
  have hts := hC.ts
  have hlt := hG.2.2.2.2.2
  intro f
  induction f with
  | zero =>
    intro H locs cells slots ls x1 x5 M hk hn hZ hl hw
    exact absurd hw (fun h => h)
  | succ f ih =>
    intro H locs cells slots ls x1 x5 M hk hn hZ hl hw
    refine lv_iload hx hb dX28_number_36 (lv_at hl 2 rfl) ?_
    refine lv_if_lt (tgt := 66) hx hb dX28_number_38 (by decide) (fun c14 => ?_) (fun c14 => ?_)
    · replace hw := hw.1 c14
      exact z_vret hG hZ hk hn hw dX28_number_66
    · replace hw := hw.2 c14
      refine lv_aload_n hx hb dX28_number_41 rfl (lv_at hl 0 rfl) ?_
      refine lv_bipush (v := 48) hx hb dX28_number_42 (by decide) ?_
      refine lv_lload_n hx hb dX28_number_44 rfl (lv_at hl 1 rfl) ?_
      refine lv_iload hx hb dX28_number_45 (lv_at hl 2 rfl) ?_
      refine z_callL hZ (vx_runSN (As := [.int x5]) (rest := [.long x1, .int (48 : Int32), .ref o]) hC.fix (w_X0_tens hlt hw) ⟨va_cnB 1 hts (lw_meth q143) rfl rfl rfl (hC.nw q1438 rfl) (hts _ q67) dd_X0_tens ⟨Nat.le_of_ble_eq_true rfl, Nat.le_of_ble_eq_true rfl⟩, hts _ q142, trivial⟩ (z_preS hC hZ) rfl rfl hl.1 rfl (lv_room (Nat.le_trans (zrm2 rfl (zrm1 rfl (zrm1 rfl zrm0))) (Nat.le_of_ble_eq_true rfl))) dX28_number_47 ⟨hk, hn⟩) (fun r8 M H locs hw1 hZ => ?_) (fun q M H locs ci fs E T9 N9 hw hZ hc1 hM1 hb1 => False.elim hw)
      replace hw := hw1
      clear hw1
      refine W.cs (cells' := cells) (slots' := slots) rfl rfl ?_
      obtain ⟨hz0, hw⟩ := hw
      refine lv_ldiv hx hb dX28_number_50 hz0 ?_
      refine lv_ldc2 hx hb hown (hts _ q1440) dX28_number_51 ?_
      refine lv_lrem hx hb dX28_number_54 (by decide) ?_
      refine lv_l2i hx hb dX28_number_55 rfl ?_
      refine lv_iadd hx hb dX28_number_56 ?_
      obtain ⟨⟨ci0, fs0, hci0, hM0⟩, hw⟩ := hw
      obtain rfl : ci0 = 25 := List.mem_singleton.mp hci0
      refine z_callU hZ (vx_runV (As := [.int ((48 : Int32) + (((x1 / r8) - (x1 / r8) / (10 : Int64) * (10 : Int64)).toInt32))]) (rest := []) hC.fix (w_X28_put hlt hw) (cwV 1 hts (lw_V q1430 q1431 q1432 q113 q1433) rfl rfl rfl ⟨rfl, dd_X28_put⟩ ⟨Nat.le_of_ble_eq_true rfl, Nat.le_of_ble_eq_true rfl⟩) (z_preV hC hZ hM0 zc25) rfl rfl hl.1 rfl (lv_room (Nat.zero_le _)) dX28_number_57 ⟨hk, hn⟩) (fun r11 M H locs hw1 hZ => ?_) (fun q M H locs ci fs E T9 N9 hw hZ hc1 hM1 hb1 => False.elim hw)
      replace hw := hw1
      clear hw1
      refine W.cs (cells' := cells) (slots' := slots) rfl rfl ?_
      refine lv_iinc (v := (x5 + (-1))) (lv' := [(5, .int (x5 + (-1))), (0, .ref o), (1, .long x1)]) hx hb dX28_number_60 hl (k := 2) rfl rfl (by decide) rfl (fun ls hl1 => ?_)
      replace hl := hl1
      clear hl1
      refine lv_goto (tgt := 36) hx hb dX28_number_63 (by decide) ?_
      exact ih _ _ _ hk hn hZ (lv_sub hl [1, 2, 0] rfl) hw
def wp_X28_number_L26 (D : zD) (post : Unit → zM → Prop) (o : Nat) (x1 : Int64) (x3 : Int32) (x4 : Int32) (M : zM) : Prop :=
    (wp_J0_max D (fun r15 M => (∃ f, wp_X28_number_L36 D post o f x1 (r15 - (1 : Int32)) M)) x4 x3 M)
set_option maxHeartbeats 4000000 in
set_option maxRecDepth 100000 in
theorem wk_X28_number_L26 {p : Program} {l : Launch} {e : Env} {s : State} {m : MethodId} {args : Array Value} {below : List Frame} {meth : Method} {c : Code} {D : zD} {post : Unit → zM → Prop} {o : Nat} (hG : zGx p l s m args meth c cX28_number 6 "PluralBranches$Sheet" D (none) "number" []) : ∀ {H : Heap} {locs : List Loc} {cells slots : Nat} {ls : Array Slot} (x1 : Int64) (x3 : Int32) (x4 : Int32) (M : zM), cells ≤ 0 → slots ≤ 0 → zS D M H locs → lv_has ls 6 [(0, .ref o), (1, .long x1), (3, .int x3), (4, .int x4)] → wp_X28_number_L26 D post o x1 x3 x4 M → W p l e rm_X28_number s m args below meth c H locs cells slots (vx_MQ below (zQ D zU post) (zX D (fun _ _ => False)) args s 0 0 (zA D)) (F0 m 26 ls []) := by
  have hC := hG.1
  have hx := hC.x
  have hb := hC.b
  have hown := hC.o
  have hts := hC.ts
  have hlt := hG.2.2.2.2.2
  intro H locs cells slots ls x1 x3 x4 M hk hn hZ hl hw
  refine lv_iload hx hb dX28_number_26 (lv_at hl 3 rfl) ?_
  refine lv_iload_n hx hb dX28_number_28 rfl (lv_at hl 2 rfl) ?_
  refine z_callI hZ (vx_runS (As := [.int x4, .int x3]) (rest := []) hC.fix (w_J0_max hlt hw) (va_cwS 2 hts (lw_S q1439 q232 q69 q233) rfl rfl rfl dd_J0_max ⟨Nat.le_of_ble_eq_true rfl, Nat.le_of_ble_eq_true rfl⟩) (z_preS hC hZ) rfl rfl hl.1 rfl (lv_room (Nat.zero_le _)) dX28_number_29 ⟨hk, hn⟩) (fun r18 M H locs hw1 hZ => ?_) (fun q M H locs ci fs E T9 N9 hw hZ hc1 hM1 hb1 => False.elim hw)
  replace hw := hw1
  clear hw1
  refine W.cs (cells' := cells) (slots' := slots) rfl rfl ?_
  refine lv_iconst (v := 1) hx hb dX28_number_32 (by decide) ?_
  refine lv_isub hx hb dX28_number_33 ?_
  refine lv_istore (i := 5) (lv' := [(5, .int (r18 - (1 : Int32))), (0, .ref o), (1, .long x1), (3, .int x3), (4, .int x4)]) hx hb dX28_number_34 hl (by decide) rfl (fun ls hl1 => ?_)
  replace hl := hl1
  clear hl1
  obtain ⟨f1, hw⟩ := hw
  exact wk_X28_number_L36 hG f1 _ _ _ hk hn hZ (lv_sub hl [1, 2, 0] rfl) hw
def wp_X28_number_L3 (D : zD) (post : Unit → zM → Prop) (o : Nat) : Nat → Int64 → Int32 → Int32 → zM → Prop
  | 0 => fun _ _ _ _ => False
  | f + 1 => fun x1 x3 x4 M =>
    (((19 : Int32) ≤ x4 → wp_X28_number_L26 D post o x1 x3 x4 M) ∧ (¬ (19 : Int32) ≤ x4 → (wp_X0_tens D (fun r21 M => (((lg_cmp x1 r21) < 0 → wp_X28_number_L26 D post o x1 x3 x4 M) ∧ (¬ (lg_cmp x1 r21) < 0 → wp_X28_number_L3 D post o f x1 x3 (x4 + 1) M))) x4 M)))
set_option maxHeartbeats 4000000 in
set_option maxRecDepth 100000 in
theorem wk_X28_number_L3 {p : Program} {l : Launch} {e : Env} {s : State} {m : MethodId} {args : Array Value} {below : List Frame} {meth : Method} {c : Code} {D : zD} {post : Unit → zM → Prop} {o : Nat} (hG : zGx p l s m args meth c cX28_number 6 "PluralBranches$Sheet" D (none) "number" []) : ∀ (f : Nat), ∀ {H : Heap} {locs : List Loc} {cells slots : Nat} {ls : Array Slot} (x1 : Int64) (x3 : Int32) (x4 : Int32) (M : zM), cells ≤ 0 → slots ≤ 0 → zS D M H locs → lv_has ls 6 [(0, .ref o), (1, .long x1), (3, .int x3), (4, .int x4)] → wp_X28_number_L3 D post o f x1 x3 x4 M → W p l e rm_X28_number s m args below meth c H locs cells slots (vx_MQ below (zQ D zU post) (zX D (fun _ _ => False)) args s 0 0 (zA D)) (F0 m 3 ls []) := by
  have hC := hG.1
  have hx := hC.x
  have hb := hC.b
  have hown := hC.o
  have hts := hC.ts
  have hlt := hG.2.2.2.2.2
  intro f
  induction f with
  | zero =>
    intro H locs cells slots ls x1 x3 x4 M hk hn hZ hl hw
    exact absurd hw (fun h => h)
  | succ f ih =>
    intro H locs cells slots ls x1 x3 x4 M hk hn hZ hl hw
    refine lv_iload hx hb dX28_number_3 (lv_at hl 3 rfl) ?_
    refine lv_bipush (v := 19) hx hb dX28_number_5 (by decide) ?_
    refine lv_icmp_ge (tgt := 26) hx hb dX28_number_7 (by decide) (fun c30 => ?_) (fun c30 => ?_)
    · replace hw := hw.1 c30
      exact wk_X28_number_L26 hG _ _ _ _ hk hn hZ (lv_sub hl [0, 1, 2, 3] rfl) hw
    · replace hw := hw.2 c30
      refine lv_lload_n hx hb dX28_number_10 rfl (lv_at hl 1 rfl) ?_
      refine lv_iload hx hb dX28_number_11 (lv_at hl 3 rfl) ?_
      refine z_callL hZ (vx_runSN (As := [.int x4]) (rest := [.long x1]) hC.fix (w_X0_tens hlt hw) ⟨va_cnB 1 hts (lw_meth q143) rfl rfl rfl (hC.nw q1438 rfl) (hts _ q67) dd_X0_tens ⟨Nat.le_of_ble_eq_true rfl, Nat.le_of_ble_eq_true rfl⟩, hts _ q142, trivial⟩ (z_preS hC hZ) rfl rfl hl.1 rfl (lv_room (Nat.le_trans (zrm2 rfl zrm0) (Nat.le_of_ble_eq_true rfl))) dX28_number_13 ⟨hk, hn⟩) (fun r26 M H locs hw1 hZ => ?_) (fun q M H locs ci fs E T9 N9 hw hZ hc1 hM1 hb1 => False.elim hw)
      replace hw := hw1
      clear hw1
      refine W.cs (cells' := cells) (slots' := slots) rfl rfl ?_
      refine W.lcmp hx hb dX28_number_16 ?_
      refine lv_if_lt (tgt := 26) hx hb dX28_number_17 (by decide) (fun c29 => ?_) (fun c29 => ?_)
      · replace hw := hw.1 c29
        exact wk_X28_number_L26 hG _ _ _ _ hk hn hZ (lv_sub hl [0, 1, 2, 3] rfl) hw
      · replace hw := hw.2 c29
        refine lv_iinc (v := (x4 + 1)) (lv' := [(4, .int (x4 + 1)), (0, .ref o), (1, .long x1), (3, .int x3)]) hx hb dX28_number_20 hl (k := 3) rfl rfl (by decide) rfl (fun ls hl1 => ?_)
        replace hl := hl1
        clear hl1
        refine lv_goto (tgt := 3) hx hb dX28_number_23 (by decide) ?_
        exact ih _ _ _ _ hk hn hZ (lv_sub hl [1, 2, 3, 0] rfl) hw
def wp_X28_number (D : zD) (post : Unit → zM → Prop) (o : Nat) (a0 : Int64) (a1 : Int32) (M : zM) : Prop :=
    (∃ f, wp_X28_number_L3 D post o f a0 a1 (1 : Int32) M)
set_option maxHeartbeats 4000000 in
set_option maxRecDepth 100000 in
theorem w_X28_number {l : Launch} {D : zD} {post : Unit → zM → Prop} (hlt : l.stackTraces = false) {o : Nat} {a0 : Int64} {a1 : Int32} {M : zM} (hw : wp_X28_number D post o a0 a1 M) : zMet l D yX28_number (ws_ yX28_number cX28_number 6 (none)) rm_X28_number 0 0 [.ref o, .long a0, .int a1] M zU post (fun _ _ => False) := by
  unfold wp_X28_number at hw
  have hlv : lv_args 0 [.ref o, .long a0, .int a1] = [(0, .ref o), (1, .long a0), (3, .int a1)] := (zargs1 rfl (zargs2 rfl (zargs1 rfl rfl)))
  refine z_ofW hlt (by decide) (Nat.le_trans (zsl1 rfl (zsl2 rfl (zsl1 rfl (Nat.le_refl 0 : (lg_sl []).length ≤ 0)))) (Nat.le_of_ble_eq_true rfl)) hlv ?_
  intro p e s m args below meth c ls hG hZ hl
  have hC := hG.1
  have hx := hC.x
  have hb := hC.b
  have hown := hC.o
  have hts := hC.ts
  have hlt := hG.2.2.2.2.2
  obtain ⟨cells, hce⟩ : ∃ z : Nat, z = 0 := ⟨0, rfl⟩
  obtain ⟨slots, hsl⟩ : ∃ z : Nat, z = 0 := ⟨0, rfl⟩
  refine W.cs (cells' := cells) (slots' := slots) hce.symm hsl.symm ?_
  have hk : cells ≤ 0 := Nat.le_of_eq hce
  have hn : slots ≤ 0 := Nat.le_of_eq hsl
  clear hce hsl
  refine lv_iconst (v := 1) hx hb dX28_number_0 (by decide) ?_
  refine lv_istore (i := 4) (lv' := [(4, .int (1 : Int32)), (0, .ref o), (1, .long a0), (3, .int a1)]) hx hb dX28_number_1 hl (by decide) rfl (fun ls hl1 => ?_)
  replace hl := hl1
  clear hl1
  obtain ⟨f1, hw⟩ := hw
  exact wk_X28_number_L3 hG f1 _ _ _ _ hk hn hZ (lv_sub hl [1, 2, 3, 0] rfl) hw
abbrev rm_X19_write : Room := { frames := 3, cells := 0, slots := 0, locals := 116 }
def wp_X19_write_L115 (D : zD) (post : Unit → zM → Prop) (o : Nat) (M : zM) : Prop :=
    post () M
set_option maxHeartbeats 4000000 in
set_option maxRecDepth 100000 in
theorem wk_X19_write_L115 {p : Program} {l : Launch} {e : Env} {s : State} {m : MethodId} {args : Array Value} {below : List Frame} {meth : Method} {c : Code} {D : zD} {post : Unit → zM → Prop} {o : Nat} (hG : zGx p l s m args meth c cX19_write 8 "PluralBranches$Pattern" D (none) "write" []) : ∀ {H : Heap} {locs : List Loc} {cells slots : Nat} {ls : Array Slot} (M : zM), cells ≤ 0 → slots ≤ 0 → zS D M H locs → lv_has ls 8 [] → wp_X19_write_L115 D post o M → W p l e rm_X19_write s m args below meth c H locs cells slots (vx_MQ below (zQ D zU post) (zX D (fun _ _ => False)) args s 0 0 (zA D)) (F0 m 115 ls []) := by
  have hC := hG.1
  have hx := hC.x
  have hb := hC.b
  have hown := hC.o
  have hts := hC.ts
  have hlt := hG.2.2.2.2.2
  intro H locs cells slots ls M hk hn hZ hl hw
  exact z_vret hG hZ hk hn hw dX19_write_115
def wp_X19_write_L104 (D : zD) (post : Unit → zM → Prop) (o : Nat) (x2 : Option Nat) (x5 : Int32) (x6 : Int64) (y0 : Option Nat) (y1 : Int32) (M : zM) : Prop :=
    ((zd y0 fun b1 => (zis M b1 [25] ∧ wp_X28_put D (fun _ M => ((zd x2 fun b5 => (zis M b5 [25] ∧ wp_X28_number D (fun _ M => wp_X19_write_L115 D post o M) b5 x6 x5 M)))) b1 y1 M)))
set_option maxHeartbeats 4000000 in
set_option maxRecDepth 100000 in
theorem wk_X19_write_L104 {p : Program} {l : Launch} {e : Env} {s : State} {m : MethodId} {args : Array Value} {below : List Frame} {meth : Method} {c : Code} {D : zD} {post : Unit → zM → Prop} {o : Nat} (hG : zGx p l s m args meth c cX19_write 8 "PluralBranches$Pattern" D (none) "write" []) : ∀ {H : Heap} {locs : List Loc} {cells slots : Nat} {ls : Array Slot} (x2 : Option Nat) (x5 : Int32) (x6 : Int64) (y0 : Option Nat) (y1 : Int32) (M : zM), cells ≤ 0 → slots ≤ 0 → zS D M H locs → lv_has ls 8 [(2, va_rf x2), (5, .int x5), (6, .long x6)] → wp_X19_write_L104 D post o x2 x5 x6 y0 y1 M → W p l e rm_X19_write s m args below meth c H locs cells slots (vx_MQ below (zQ D zU post) (zX D (fun _ _ => False)) args s 0 0 (zA D)) (F0 m 104 ls [.int y1, va_rf y0]) := by
  have hC := hG.1
  have hx := hC.x
  have hb := hC.b
  have hown := hC.o
  have hts := hC.ts
  have hlt := hG.2.2.2.2.2
  intro H locs cells slots ls x2 x5 x6 y0 y1 M hk hn hZ hl hw
  obtain ⟨b9, hr0, hw⟩ := hw
  subst hr0
  obtain ⟨⟨ci0, fs0, hci0, hM0⟩, hw⟩ := hw
  obtain rfl : ci0 = 25 := List.mem_singleton.mp hci0
  refine z_callU hZ (vx_runV (As := [.int y1]) (rest := []) hC.fix (w_X28_put hlt hw) (cwV 1 hts (lw_V q1566 q1431 q1432 q113 q1433) rfl rfl rfl ⟨rfl, dd_X28_put⟩ ⟨Nat.le_of_ble_eq_true rfl, Nat.le_of_ble_eq_true rfl⟩) (z_preV hC hZ hM0 zc25) rfl rfl hl.1 rfl (lv_room (Nat.zero_le _)) dX19_write_104 ⟨hk, hn⟩) (fun r10 M H locs hw1 hZ => ?_) (fun q M H locs ci fs E T9 N9 hw hZ hc1 hM1 hb1 => False.elim hw)
  replace hw := hw1
  clear hw1
  refine W.cs (cells' := cells) (slots' := slots) rfl rfl ?_
  refine z_aload_n hC dX19_write_107 rfl (lv_at hl 0 rfl) ?_
  refine lv_lload hx hb dX19_write_108 (lv_at hl 2 rfl) ?_
  refine lv_iload hx hb dX19_write_110 (lv_at hl 1 rfl) ?_
  obtain ⟨b13, hr0, hw⟩ := hw
  subst hr0
  obtain ⟨⟨ci0, fs0, hci0, hM0⟩, hw⟩ := hw
  obtain rfl : ci0 = 25 := List.mem_singleton.mp hci0
  refine z_callU hZ (vx_runV (As := [.long x6, .int x5]) (rest := []) hC.fix (w_X28_number hlt hw) (cwV 2 hts (lw_V q1587 q1435 q1436 q113 q1437) rfl rfl rfl ⟨rfl, dd_X28_number⟩ ⟨Nat.le_of_ble_eq_true rfl, Nat.le_of_ble_eq_true rfl⟩) (z_preV hC hZ hM0 zc25) rfl rfl hl.1 rfl (lv_room (Nat.zero_le _)) dX19_write_112 ⟨hk, hn⟩) (fun r14 M H locs hw1 hZ => ?_) (fun q M H locs ci fs E T9 N9 hw hZ hc1 hM1 hb1 => False.elim hw)
  replace hw := hw1
  clear hw1
  refine W.cs (cells' := cells) (slots' := slots) rfl rfl ?_
  exact wk_X19_write_L115 hG _ hk hn hZ (lv_sub hl [] rfl) hw
def wp_X19_write_L77 (D : zD) (post : Unit → zM → Prop) (o : Nat) (x2 : Option Nat) (x3 : Int64) (x5 : Int32) (x6 : Int64) (M : zM) : Prop :=
    (zgI M o 17 3 fun g17 => (wp_X0_tens D (fun r18 M => (¬ r18 = 0 ∧ ((zis M o [17] ∧ wp_X19_wholes D (fun _ M => ((x5 ≤ 0 → wp_X19_write_L115 D post o M) ∧ (¬ x5 ≤ 0 → ((zd x2 fun b24 => zgR M b24 25 2 fun g25 => ((zd g25 fun b26 => ((zis M b26 [2, 4] ∧ wp_X2_point D (fun r27 M => wp_X19_write_L104 D post o (some b24) x5 x6 (some b24) r27 M) b26 M) ∨ (zis M b26 [5] ∧ wp_X6_point D (fun r30 M => wp_X19_write_L104 D post o (some b24) x5 x6 (some b24) r30 M) b26 M) ∨ (zis M b26 [6] ∧ wp_X7_point D (fun r33 M => wp_X19_write_L104 D post o (some b24) x5 x6 (some b24) r33 M) b26 M))))))))) o (x3 / r18) x2 M)))) g17 M))
set_option maxHeartbeats 4000000 in
set_option maxRecDepth 100000 in
theorem wk_X19_write_L77 {p : Program} {l : Launch} {e : Env} {s : State} {m : MethodId} {args : Array Value} {below : List Frame} {meth : Method} {c : Code} {D : zD} {post : Unit → zM → Prop} {o : Nat} (hG : zGx p l s m args meth c cX19_write 8 "PluralBranches$Pattern" D (none) "write" []) : ∀ {H : Heap} {locs : List Loc} {cells slots : Nat} {ls : Array Slot} (x2 : Option Nat) (x3 : Int64) (x5 : Int32) (x6 : Int64) (M : zM), cells ≤ 0 → slots ≤ 0 → zS D M H locs → lv_has ls 8 [(0, .ref o), (2, va_rf x2), (3, .long x3), (5, .int x5), (6, .long x6)] → wp_X19_write_L77 D post o x2 x3 x5 x6 M → W p l e rm_X19_write s m args below meth c H locs cells slots (vx_MQ below (zQ D zU post) (zX D (fun _ _ => False)) args s 0 0 (zA D)) (F0 m 77 ls []) := by
  have hC := hG.1
  have hx := hC.x
  have hb := hC.b
  have hown := hC.o
  have hts := hC.ts
  have hlt := hG.2.2.2.2.2
  intro H locs cells slots ls x2 x3 x5 x6 M hk hn hZ hl hw
  refine lv_aload_n hx hb dX19_write_77 rfl (lv_at hl 0 rfl) ?_
  refine lv_lload_n hx hb dX19_write_78 rfl (lv_at hl 2 rfl) ?_
  refine lv_aload_n hx hb dX19_write_79 rfl (lv_at hl 0 rfl) ?_
  obtain ⟨fs0, g37, hM0, hx0, hw⟩ := hw
  refine z_get hC hZ hM0 zc17 3 (by decide) q782 (fun _ h9 => h9) hx0 dX19_write_80 ?_
  refine z_callL hZ (vx_runSN (As := [.int g37]) (rest := [.long x3, .ref o]) hC.fix (w_X0_tens hlt hw) ⟨va_cnB 1 hts (lw_meth q143) rfl rfl rfl (hC.nw q1568 rfl) (hts _ q67) dd_X0_tens ⟨Nat.le_of_ble_eq_true rfl, Nat.le_of_ble_eq_true rfl⟩, hts _ q142, trivial⟩ (z_preS hC hZ) rfl rfl hl.1 rfl (lv_room (Nat.le_trans (zrm2 rfl (zrm1 rfl zrm0)) (Nat.le_of_ble_eq_true rfl))) dX19_write_83 ⟨hk, hn⟩) (fun r38 M H locs hw1 hZ => ?_) (fun q M H locs ci fs E T9 N9 hw hZ hc1 hM1 hb1 => False.elim hw)
  replace hw := hw1
  clear hw1
  refine W.cs (cells' := cells) (slots' := slots) rfl rfl ?_
  obtain ⟨hz0, hw⟩ := hw
  refine lv_ldiv hx hb dX19_write_86 hz0 ?_
  refine z_aload_n hC dX19_write_87 rfl (lv_at hl 1 rfl) ?_
  obtain ⟨⟨ci0, fs0, hci0, hM0⟩, hw⟩ := hw
  obtain rfl : ci0 = 17 := List.mem_singleton.mp hci0
  refine z_callU hZ (vx_runV (As := [.long (x3 / r38), va_rf x2]) (rest := []) hC.fix (w_X19_wholes hlt hw) (cwV 2 hts (lw_V q1570 q1572 qs25 q98 q1573) rfl rfl rfl ⟨rfl, dd_X19_wholes⟩ ⟨Nat.le_of_ble_eq_true rfl, Nat.le_of_ble_eq_true rfl⟩) (z_preV hC hZ hM0 zc17) rfl rfl hl.1 rfl (lv_room (Nat.zero_le _)) dX19_write_88 ⟨hk, hn⟩) (fun r41 M H locs hw1 hZ => ?_) (fun q M H locs ci fs E T9 N9 hw hZ hc1 hM1 hb1 => False.elim hw)
  replace hw := hw1
  clear hw1
  refine W.cs (cells' := cells) (slots' := slots) rfl rfl ?_
  refine lv_iload hx hb dX19_write_91 (lv_at hl 3 rfl) ?_
  refine lv_if_le (tgt := 115) hx hb dX19_write_93 (by decide) (fun c56 => ?_) (fun c56 => ?_)
  · replace hw := hw.1 c56
    exact wk_X19_write_L115 hG _ hk hn hZ (lv_sub hl [] rfl) hw
  · replace hw := hw.2 c56
    refine z_aload_n hC dX19_write_96 rfl (lv_at hl 1 rfl) ?_
    refine z_aload_n hC dX19_write_97 rfl (lv_at hl 1 rfl) ?_
    obtain ⟨b44, hr0, hw⟩ := hw
    subst hr0
    obtain ⟨fs0, g45, hM0, hx0, hw⟩ := hw
    refine z_getN hC hZ hM0 zc25 2 (by decide) q1376 (fun _ h9 => h9) hx0 dX19_write_98 ?_
    obtain ⟨b46, hr0, hw⟩ := hw
    subst hr0
    rcases hw with hw | hw | hw
    · obtain ⟨⟨ci0, fs0, hci0, hM0⟩, hw⟩ := hw
      obtain ⟨C0, T0, N0, ty0, hc0, hsel0⟩ : ∃ (C0 : String) (T0 : u_T) (N0 : Nat) (ty0 : Nat → FieldType), zCls ci0 C0 T0 N0 ty0 ∧ Cond.selects C0 ⟨"PluralBranches$Language", "point", "()I"⟩ yX2_point ∈ lw_all := (zal ⟨_, _, _, _, zc2, q1448⟩ (zal ⟨_, _, _, _, zc4, q1447⟩ (za0)) : ∀ ci ∈ [2, 4], ∃ (C0 : String) (T0 : u_T) (N0 : Nat) (ty0 : Nat → FieldType), zCls ci C0 T0 N0 ty0 ∧ Cond.selects C0 ⟨"PluralBranches$Language", "point", "()I"⟩ yX2_point ∈ lw_all) ci0 hci0
      refine z_callI hZ (vx_runU (As := []) (rest := [.ref b44]) hC.fix (w_X2_point hlt hw) (va_cwU (owner := "PluralBranches$Language") (x := ⟨"PluralBranches$Language", "point", "()I"⟩) 0 hts (lw_app (zal q1586 (zal q1443 (zal hsel0 (zal q1442 (zal q70 za0))))) (lw_meth q1452)) rfl rfl rfl rfl (by decide +kernel) ⟨Nat.le_of_ble_eq_true rfl, Nat.le_of_ble_eq_true rfl⟩) (z_preV hC hZ hM0 hc0) rfl rfl hl.1 rfl (lv_room (Nat.le_trans (zrm1 rfl zrm0) (Nat.le_of_ble_eq_true rfl))) dX19_write_101 ⟨hk, hn⟩) (fun r47 M H locs hw1 hZ => ?_) (fun q M H locs ci fs E T9 N9 hw hZ hc1 hM1 hb1 => False.elim hw)
      replace hw := hw1
      clear hw1
      refine W.cs (cells' := cells) (slots' := slots) rfl rfl ?_
      exact wk_X19_write_L104 hG _ _ _ _ _ _ hk hn hZ (lv_sub hl [1, 3, 4] rfl) hw
    · obtain ⟨⟨ci0, fs0, hci0, hM0⟩, hw⟩ := hw
      obtain ⟨C0, T0, N0, ty0, hc0, hsel0⟩ : ∃ (C0 : String) (T0 : u_T) (N0 : Nat) (ty0 : Nat → FieldType), zCls ci0 C0 T0 N0 ty0 ∧ Cond.selects C0 ⟨"PluralBranches$Language", "point", "()I"⟩ yX6_point ∈ lw_all := (zal ⟨_, _, _, _, zc5, q1444⟩ (za0) : ∀ ci ∈ [5], ∃ (C0 : String) (T0 : u_T) (N0 : Nat) (ty0 : Nat → FieldType), zCls ci C0 T0 N0 ty0 ∧ Cond.selects C0 ⟨"PluralBranches$Language", "point", "()I"⟩ yX6_point ∈ lw_all) ci0 hci0
      refine z_callI hZ (vx_runU (As := []) (rest := [.ref b44]) hC.fix (w_X6_point hlt hw) (va_cwO (owner := "PluralBranches$Language") (x := ⟨"PluralBranches$Language", "point", "()I"⟩) 0 hts (lw_app (zal q1586 (zal q1443 (zal q1442 (zal hsel0 (zal q1445 (zal q80 za0)))))) (lw_meth q1446)) rfl rfl rfl q1452 (by decide +kernel) ⟨Nat.le_of_ble_eq_true rfl, Nat.le_of_ble_eq_true rfl⟩) (z_preV hC hZ hM0 hc0) rfl rfl hl.1 rfl (lv_room (Nat.le_trans (zrm1 rfl zrm0) (Nat.le_of_ble_eq_true rfl))) dX19_write_101 ⟨hk, hn⟩) (fun r50 M H locs hw1 hZ => ?_) (fun q M H locs ci fs E T9 N9 hw hZ hc1 hM1 hb1 => False.elim hw)
      replace hw := hw1
      clear hw1
      refine W.cs (cells' := cells) (slots' := slots) rfl rfl ?_
      exact wk_X19_write_L104 hG _ _ _ _ _ _ hk hn hZ (lv_sub hl [1, 3, 4] rfl) hw
    · obtain ⟨⟨ci0, fs0, hci0, hM0⟩, hw⟩ := hw
      obtain ⟨C0, T0, N0, ty0, hc0, hsel0⟩ : ∃ (C0 : String) (T0 : u_T) (N0 : Nat) (ty0 : Nat → FieldType), zCls ci0 C0 T0 N0 ty0 ∧ Cond.selects C0 ⟨"PluralBranches$Language", "point", "()I"⟩ yX7_point ∈ lw_all := (zal ⟨_, _, _, _, zc6, q1449⟩ (za0) : ∀ ci ∈ [6], ∃ (C0 : String) (T0 : u_T) (N0 : Nat) (ty0 : Nat → FieldType), zCls ci C0 T0 N0 ty0 ∧ Cond.selects C0 ⟨"PluralBranches$Language", "point", "()I"⟩ yX7_point ∈ lw_all) ci0 hci0
      refine z_callI hZ (vx_runU (As := []) (rest := [.ref b44]) hC.fix (w_X7_point hlt hw) (va_cwO (owner := "PluralBranches$Language") (x := ⟨"PluralBranches$Language", "point", "()I"⟩) 0 hts (lw_app (zal q1586 (zal q1443 (zal q1442 (zal hsel0 (zal q1450 (zal q81 za0)))))) (lw_meth q1451)) rfl rfl rfl q1452 (by decide +kernel) ⟨Nat.le_of_ble_eq_true rfl, Nat.le_of_ble_eq_true rfl⟩) (z_preV hC hZ hM0 hc0) rfl rfl hl.1 rfl (lv_room (Nat.le_trans (zrm1 rfl zrm0) (Nat.le_of_ble_eq_true rfl))) dX19_write_101 ⟨hk, hn⟩) (fun r53 M H locs hw1 hZ => ?_) (fun q M H locs ci fs E T9 N9 hw hZ hc1 hM1 hb1 => False.elim hw)
      replace hw := hw1
      clear hw1
      refine W.cs (cells' := cells) (slots' := slots) rfl rfl ?_
      exact wk_X19_write_L104 hG _ _ _ _ _ _ hk hn hZ (lv_sub hl [1, 3, 4] rfl) hw
def wp_X19_write_L43 (D : zD) (post : Unit → zM → Prop) (o : Nat) : Nat → Option Nat → Int64 → Int32 → Int64 → zM → Prop
  | 0 => fun _ _ _ _ _ => False
  | f + 1 => fun x2 x3 x5 x6 M =>
    (zgI M o 17 2 fun g57 => ((x5 ≤ g57 → wp_X19_write_L77 D post o x2 x3 x5 x6 M) ∧ (¬ x5 ≤ g57 → ((¬ (lg_cmp (x6 - x6 / (10 : Int64) * (10 : Int64)) (0 : Int64)) = 0 → wp_X19_write_L77 D post o x2 x3 x5 x6 M) ∧ ((lg_cmp (x6 - x6 / (10 : Int64) * (10 : Int64)) (0 : Int64)) = 0 → wp_X19_write_L43 D post o f x2 x3 (x5 + (-1)) (x6 / (10 : Int64)) M)))))
set_option maxHeartbeats 4000000 in
set_option maxRecDepth 100000 in
theorem wk_X19_write_L43 {p : Program} {l : Launch} {e : Env} {s : State} {m : MethodId} {args : Array Value} {below : List Frame} {meth : Method} {c : Code} {D : zD} {post : Unit → zM → Prop} {o : Nat} (hG : zGx p l s m args meth c cX19_write 8 "PluralBranches$Pattern" D (none) "write" []) : ∀ (f : Nat), ∀ {H : Heap} {locs : List Loc} {cells slots : Nat} {ls : Array Slot} (x2 : Option Nat) (x3 : Int64) (x5 : Int32) (x6 : Int64) (M : zM), cells ≤ 0 → slots ≤ 0 → zS D M H locs → lv_has ls 8 [(0, .ref o), (2, va_rf x2), (3, .long x3), (5, .int x5), (6, .long x6)] → wp_X19_write_L43 D post o f x2 x3 x5 x6 M → W p l e rm_X19_write s m args below meth c H locs cells slots (vx_MQ below (zQ D zU post) (zX D (fun _ _ => False)) args s 0 0 (zA D)) (F0 m 43 ls []) := by
  have hC := hG.1
  have hx := hC.x
  have hb := hC.b
  have hown := hC.o
  have hts := hC.ts
  have hlt := hG.2.2.2.2.2
  intro f
  induction f with
  | zero =>
    intro H locs cells slots ls x2 x3 x5 x6 M hk hn hZ hl hw
    exact absurd hw (fun h => h)
  | succ f ih =>
    intro H locs cells slots ls x2 x3 x5 x6 M hk hn hZ hl hw
    refine lv_iload hx hb dX19_write_43 (lv_at hl 3 rfl) ?_
    refine lv_aload_n hx hb dX19_write_45 rfl (lv_at hl 0 rfl) ?_
    obtain ⟨fs0, g60, hM0, hx0, hw⟩ := hw
    refine z_get hC hZ hM0 zc17 2 (by decide) q781 (fun _ h9 => h9) hx0 dX19_write_46 ?_
    refine lv_icmp_le (tgt := 77) hx hb dX19_write_49 (by decide) (fun c62 => ?_) (fun c62 => ?_)
    · replace hw := hw.1 c62
      exact wk_X19_write_L77 hG _ _ _ _ _ hk hn hZ (lv_sub hl [0, 1, 2, 3, 4] rfl) hw
    · replace hw := hw.2 c62
      refine lv_lload hx hb dX19_write_52 (lv_at hl 4 rfl) ?_
      refine lv_ldc2 hx hb hown (hts _ q1569) dX19_write_54 ?_
      refine lv_lrem hx hb dX19_write_57 (by decide) ?_
      refine lv_lconst (v := 0) hx hb dX19_write_58 (by decide) ?_
      refine W.lcmp hx hb dX19_write_59 ?_
      refine lv_if_ne (tgt := 77) hx hb dX19_write_60 (by decide) (fun c61 => ?_) (fun c61 => ?_)
      · replace hw := hw.1 c61
        exact wk_X19_write_L77 hG _ _ _ _ _ hk hn hZ (lv_sub hl [0, 1, 2, 3, 4] rfl) hw
      · replace hw := hw.2 c61
        refine lv_lload hx hb dX19_write_63 (lv_at hl 4 rfl) ?_
        refine lv_ldc2 hx hb hown (hts _ q1569) dX19_write_65 ?_
        refine lv_ldiv hx hb dX19_write_68 (by decide) ?_
        refine lv_lstore (i := 6) (lv' := [(6, .long (x6 / (10 : Int64))), (0, .ref o), (2, va_rf x2), (3, .long x3), (5, .int x5)]) hx hb dX19_write_69 hl (by decide) rfl (fun ls hl1 => ?_)
        replace hl := hl1
        clear hl1
        refine lv_iinc (v := (x5 + (-1))) (lv' := [(5, .int (x5 + (-1))), (6, .long (x6 / (10 : Int64))), (0, .ref o), (2, va_rf x2), (3, .long x3)]) hx hb dX19_write_71 hl (k := 4) rfl rfl (by decide) rfl (fun ls hl1 => ?_)
        replace hl := hl1
        clear hl1
        refine lv_goto (tgt := 43) hx hb dX19_write_74 (by decide) ?_
        exact ih _ _ _ _ _ hk hn hZ (lv_sub hl [2, 3, 4, 0, 1] rfl) hw
def wp_X19_write_L21 (D : zD) (post : Unit → zM → Prop) (o : Nat) (x2 : Option Nat) (x3 : Int64) (M : zM) : Prop :=
    (wp_J0_abs D (fun r63 M => (zgI M o 17 3 fun g66 => (zgI M o 17 3 fun g67 => (wp_X0_tens D (fun r68 M => (¬ r68 = 0 ∧ (∃ f, wp_X19_write_L43 D post o f x2 r63 g66 (r63 - r63 / r68 * r68) M))) g67 M)))) x3 M)
set_option maxHeartbeats 4000000 in
set_option maxRecDepth 100000 in
theorem wk_X19_write_L21 {p : Program} {l : Launch} {e : Env} {s : State} {m : MethodId} {args : Array Value} {below : List Frame} {meth : Method} {c : Code} {D : zD} {post : Unit → zM → Prop} {o : Nat} (hG : zGx p l s m args meth c cX19_write 8 "PluralBranches$Pattern" D (none) "write" []) : ∀ {H : Heap} {locs : List Loc} {cells slots : Nat} {ls : Array Slot} (x2 : Option Nat) (x3 : Int64) (M : zM), cells ≤ 0 → slots ≤ 0 → zS D M H locs → lv_has ls 8 [(0, .ref o), (2, va_rf x2), (3, .long x3)] → wp_X19_write_L21 D post o x2 x3 M → W p l e rm_X19_write s m args below meth c H locs cells slots (vx_MQ below (zQ D zU post) (zX D (fun _ _ => False)) args s 0 0 (zA D)) (F0 m 21 ls []) := by
  have hC := hG.1
  have hx := hC.x
  have hb := hC.b
  have hown := hC.o
  have hts := hC.ts
  have hlt := hG.2.2.2.2.2
  intro H locs cells slots ls x2 x3 M hk hn hZ hl hw
  refine lv_lload_n hx hb dX19_write_21 rfl (lv_at hl 2 rfl) ?_
  refine z_callL hZ (vx_runS (As := [.long x3]) (rest := []) hC.fix (w_J0_abs hlt hw) (va_cwS 1 hts (lw_S q1567 q139 q69 q140) rfl rfl rfl dd_J0_abs ⟨Nat.le_of_ble_eq_true rfl, Nat.le_of_ble_eq_true rfl⟩) (z_preS hC hZ) rfl rfl hl.1 rfl (lv_room (Nat.zero_le _)) dX19_write_22 ⟨hk, hn⟩) (fun r71 M H locs hw1 hZ => ?_) (fun q M H locs ci fs E T9 N9 hw hZ hc1 hM1 hb1 => False.elim hw)
  replace hw := hw1
  clear hw1
  refine W.cs (cells' := cells) (slots' := slots) rfl rfl ?_
  refine lv_lstore_n (i := 3) (lv' := [(3, .long r71), (0, .ref o), (2, va_rf x2)]) hx hb dX19_write_25 rfl hl (by decide) (zfc rfl (zfk rfl (zfk (zfa rfl) (zfd rfl rfl)))) (fun ls hl1 => ?_)
  replace hl := hl1
  clear hl1
  refine lv_aload_n hx hb dX19_write_26 rfl (lv_at hl 1 rfl) ?_
  obtain ⟨fs0, g74, hM0, hx0, hw⟩ := hw
  refine z_get hC hZ hM0 zc17 3 (by decide) q782 (fun _ h9 => h9) hx0 dX19_write_27 ?_
  refine lv_istore (i := 5) (lv' := [(5, .int g74), (3, .long r71), (0, .ref o), (2, va_rf x2)]) hx hb dX19_write_30 hl (by decide) rfl (fun ls hl1 => ?_)
  replace hl := hl1
  clear hl1
  refine lv_lload_n hx hb dX19_write_32 rfl (lv_at hl 1 rfl) ?_
  refine lv_aload_n hx hb dX19_write_33 rfl (lv_at hl 2 rfl) ?_
  obtain ⟨fs0, g75, hM0, hx0, hw⟩ := hw
  refine z_get hC hZ hM0 zc17 3 (by decide) q782 (fun _ h9 => h9) hx0 dX19_write_34 ?_
  refine z_callL hZ (vx_runSN (As := [.int g75]) (rest := [.long r71]) hC.fix (w_X0_tens hlt hw) ⟨va_cnB 1 hts (lw_meth q143) rfl rfl rfl (hC.nw q1568 rfl) (hts _ q67) dd_X0_tens ⟨Nat.le_of_ble_eq_true rfl, Nat.le_of_ble_eq_true rfl⟩, hts _ q142, trivial⟩ (z_preS hC hZ) rfl rfl hl.1 rfl (lv_room (Nat.le_trans (zrm2 rfl zrm0) (Nat.le_of_ble_eq_true rfl))) dX19_write_37 ⟨hk, hn⟩) (fun r76 M H locs hw1 hZ => ?_) (fun q M H locs ci fs E T9 N9 hw hZ hc1 hM1 hb1 => False.elim hw)
  replace hw := hw1
  clear hw1
  refine W.cs (cells' := cells) (slots' := slots) rfl rfl ?_
  obtain ⟨hz0, hw⟩ := hw
  refine lv_lrem hx hb dX19_write_40 hz0 ?_
  refine lv_lstore (i := 6) (lv' := [(6, .long (r71 - r71 / r76 * r76)), (5, .int g74), (3, .long r71), (0, .ref o), (2, va_rf x2)]) hx hb dX19_write_41 hl (by decide) rfl (fun ls hl1 => ?_)
  replace hl := hl1
  clear hl1
  obtain ⟨f1, hw⟩ := hw
  exact wk_X19_write_L43 hG f1 _ _ _ _ _ hk hn hZ (lv_sub hl [3, 4, 2, 1, 0] rfl) hw
def wp_X19_write (D : zD) (post : Unit → zM → Prop) (o : Nat) (a0 : Option Nat) (a1 : Option Nat) (M : zM) : Prop :=
    (zgI M o 17 3 fun g79 => ((zd a0 fun b80 => (zis M b80 [1] ∧ wp_X1_rounded D (fun r81 M => ((0 ≤ (lg_cmp r81 (0 : Int64)) → wp_X19_write_L21 D post o a1 r81 M) ∧ (¬ 0 ≤ (lg_cmp r81 (0 : Int64)) → ((zd a1 fun b84 => (zis M b84 [25] ∧ wp_X28_put D (fun _ M => wp_X19_write_L21 D post o (some b84) r81 M) b84 (45 : Int32) M)))))) b80 g79 M))))
set_option maxHeartbeats 4000000 in
set_option maxRecDepth 100000 in
theorem w_X19_write {l : Launch} {D : zD} {post : Unit → zM → Prop} (hlt : l.stackTraces = false) {o : Nat} {a0 : Option Nat} {a1 : Option Nat} {M : zM} (hw : wp_X19_write D post o a0 a1 M) : zMet l D yX19_write (ws_ yX19_write cX19_write 8 (none)) rm_X19_write 0 0 [.ref o, va_rf a0, va_rf a1] M zU post (fun _ _ => False) := by
  unfold wp_X19_write at hw
  have hlv : lv_args 0 [.ref o, va_rf a0, va_rf a1] = [(0, .ref o), (1, va_rf a0), (2, va_rf a1)] := (zargs1 rfl (zargs1 (zcat _) (zargs1 (zcat _) rfl)))
  refine z_ofW hlt (by decide) (Nat.le_trans (zsl1 rfl (zsl1 (zcat _) (zsl1 (zcat _) (Nat.le_refl 0 : (lg_sl []).length ≤ 0)))) (Nat.le_of_ble_eq_true rfl)) hlv ?_
  intro p e s m args below meth c ls hG hZ hl
  have hC := hG.1
  have hx := hC.x
  have hb := hC.b
  have hown := hC.o
  have hts := hC.ts
  have hlt := hG.2.2.2.2.2
  obtain ⟨cells, hce⟩ : ∃ z : Nat, z = 0 := ⟨0, rfl⟩
  obtain ⟨slots, hsl⟩ : ∃ z : Nat, z = 0 := ⟨0, rfl⟩
  refine W.cs (cells' := cells) (slots' := slots) hce.symm hsl.symm ?_
  have hk : cells ≤ 0 := Nat.le_of_eq hce
  have hn : slots ≤ 0 := Nat.le_of_eq hsl
  clear hce hsl
  refine z_aload_n hC dX19_write_0 rfl (lv_at hl 1 rfl) ?_
  refine lv_aload_n hx hb dX19_write_1 rfl (lv_at hl 0 rfl) ?_
  obtain ⟨fs0, g89, hM0, hx0, hw⟩ := hw
  refine z_get hC hZ hM0 zc17 3 (by decide) q782 (fun _ h9 => h9) hx0 dX19_write_2 ?_
  obtain ⟨b90, hr0, hw⟩ := hw
  subst hr0
  obtain ⟨⟨ci0, fs0, hci0, hM0⟩, hw⟩ := hw
  obtain rfl : ci0 = 1 := List.mem_singleton.mp hci0
  refine z_callL hZ (vx_runV (As := [.int g89]) (rest := []) hC.fix (w_X1_rounded hlt hw) (cwV 1 hts (lw_V q1561 q1562 q1563 q68 q1564) rfl rfl rfl ⟨rfl, dd_X1_rounded⟩ ⟨Nat.le_of_ble_eq_true rfl, Nat.le_of_ble_eq_true rfl⟩) (z_preV hC hZ hM0 zc1) rfl rfl hl.1 rfl (lv_room (Nat.zero_le _)) dX19_write_5 ⟨hk, hn⟩) (fun r91 M H locs hw1 hZ => ?_) (fun q M H locs ci fs E T9 N9 hw hZ hc1 hM1 hb1 => False.elim hw)
  replace hw := hw1
  clear hw1
  refine W.cs (cells' := cells) (slots' := slots) rfl rfl ?_
  refine lv_lstore_n (i := 3) (lv' := [(3, .long r91), (0, .ref o), (1, .ref b90), (2, va_rf a1)]) hx hb dX19_write_8 rfl hl (by decide) (zfc rfl (zfk rfl (zfk rfl (zfk (zfa rfl) rfl)))) (fun ls hl1 => ?_)
  replace hl := hl1
  clear hl1
  refine lv_lload_n hx hb dX19_write_9 rfl (lv_at hl 0 rfl) ?_
  refine lv_lconst (v := 0) hx hb dX19_write_10 (by decide) ?_
  refine W.lcmp hx hb dX19_write_11 ?_
  refine lv_if_ge (tgt := 21) hx hb dX19_write_12 (by decide) (fun c98 => ?_) (fun c98 => ?_)
  · replace hw := hw.1 c98
    exact wk_X19_write_L21 hG _ _ _ hk hn hZ (lv_sub hl [1, 3, 0] rfl) hw
  · replace hw := hw.2 c98
    refine z_aload_n hC dX19_write_15 rfl (lv_at hl 3 rfl) ?_
    refine lv_bipush (v := 45) hx hb dX19_write_16 (by decide) ?_
    obtain ⟨b94, hr0, hw⟩ := hw
    subst hr0
    obtain ⟨⟨ci0, fs0, hci0, hM0⟩, hw⟩ := hw
    obtain rfl : ci0 = 25 := List.mem_singleton.mp hci0
    refine z_callU hZ (vx_runV (As := [.int (45 : Int32)]) (rest := []) hC.fix (w_X28_put hlt hw) (cwV 1 hts (lw_V q1566 q1431 q1432 q113 q1433) rfl rfl rfl ⟨rfl, dd_X28_put⟩ ⟨Nat.le_of_ble_eq_true rfl, Nat.le_of_ble_eq_true rfl⟩) (z_preV hC hZ hM0 zc25) rfl rfl hl.1 rfl (lv_room (Nat.zero_le _)) dX19_write_18 ⟨hk, hn⟩) (fun r95 M H locs hw1 hZ => ?_) (fun q M H locs ci fs E T9 N9 hw hZ hc1 hM1 hb1 => False.elim hw)
    replace hw := hw1
    clear hw1
    refine W.cs (cells' := cells) (slots' := slots) rfl rfl ?_
    exact wk_X19_write_L21 hG _ _ _ hk hn hZ (lv_sub hl [1, 3, 0] rfl) hw
abbrev rm_X0_takes : Room := { frames := 1, cells := 0, slots := 0, locals := 64 }
def wp_X0_takes (D : zD) (post : Int32 → zM → Prop) (o : Nat) (a0 : Option Nat) (M : zM) : Prop :=
    ((zd a0 fun b1 => zgR M b1 25 0 fun g2 => (zgR M o 0 1 fun g3 => (zgI M b1 25 1 fun g4 => ((zd g2 fun b5 => ((zd g3 fun b6 => zcp1 D M b5 b6 (0 : Int32) (0 : Int32) g4 (fun M => (zgI M b1 25 1 fun g7 => (zp D M o 0 2 (.int g7) fun M => (zgI M o 0 2 fun g8 => post g8 M))))))))))))
set_option maxHeartbeats 4000000 in
set_option maxRecDepth 100000 in
theorem w_X0_takes {l : Launch} {D : zD} {post : Int32 → zM → Prop} (hlt : l.stackTraces = false) {o : Nat} {a0 : Option Nat} {M : zM} (hw : wp_X0_takes D post o a0 M) : zMet l D yX0_takes (ws_ yX0_takes cX0_takes 2 (some .int)) rm_X0_takes 0 0 [.ref o, va_rf a0] M zI post (fun _ _ => False) := by
  unfold wp_X0_takes at hw
  have hlv : lv_args 0 [.ref o, va_rf a0] = [(0, .ref o), (1, va_rf a0)] := (zargs1 rfl (zargs1 (zcat _) rfl))
  refine z_ofW hlt (by decide) (Nat.le_trans (zsl1 rfl (zsl1 (zcat _) (Nat.le_refl 0 : (lg_sl []).length ≤ 0))) (Nat.le_of_ble_eq_true rfl)) hlv ?_
  intro p e s m args below meth c ls hG hZ hl
  have hC := hG.1
  have hx := hC.x
  have hb := hC.b
  have hown := hC.o
  have hts := hC.ts
  have hlt := hG.2.2.2.2.2
  obtain ⟨cells, hce⟩ : ∃ z : Nat, z = 0 := ⟨0, rfl⟩
  obtain ⟨slots, hsl⟩ : ∃ z : Nat, z = 0 := ⟨0, rfl⟩
  refine W.cs (cells' := cells) (slots' := slots) hce.symm hsl.symm ?_
  have hk : cells ≤ 0 := Nat.le_of_eq hce
  have hn : slots ≤ 0 := Nat.le_of_eq hsl
  clear hce hsl
  refine z_aload_n hC dX0_takes_0 rfl (lv_at hl 1 rfl) ?_
  obtain ⟨b10, hr0, hw⟩ := hw
  subst hr0
  obtain ⟨fs0, g11, hM0, hx0, hw⟩ := hw
  refine z_getN hC hZ hM0 zc25 0 (by decide) q1372 (fun _ h9 => h9) hx0 dX0_takes_1 ?_
  refine lv_iconst (v := 0) hx hb dX0_takes_4 (by decide) ?_
  refine lv_aload_n hx hb dX0_takes_5 rfl (lv_at hl 0 rfl) ?_
  obtain ⟨fs0, g12, hM0, hx0, hw⟩ := hw
  refine z_get hC hZ hM0 zc0 1 (by decide) q400 (fun _ h9 => h9) hx0 dX0_takes_6 ?_
  refine lv_iconst (v := 0) hx hb dX0_takes_9 (by decide) ?_
  refine lv_aload_n hx hb dX0_takes_10 rfl (lv_at hl 1 rfl) ?_
  obtain ⟨fs0, g13, hM0, hx0, hw⟩ := hw
  refine z_getN hC hZ hM0 zc25 1 (by decide) q1374 (fun _ h9 => h9) hx0 dX0_takes_11 ?_
  obtain ⟨b14, hr0, hw⟩ := hw
  subst hr0
  obtain ⟨b15, hr0, hw⟩ := hw
  subst hr0
  refine z_copy1 hC hZ hl.1 hw q1601 q284 q283 q77 (Nat.le_of_ble_eq_true rfl) (z_nat (Nat.le_trans zrm0 (Nat.le_of_ble_eq_true rfl)) (Nat.le_of_ble_eq_true rfl)) dX0_takes_14 (fun M H locs hw1 hZ => ?_)
  replace hw := hw1
  clear hw1
  refine lv_aload_n hx hb dX0_takes_17 rfl (lv_at hl 0 rfl) ?_
  refine lv_aload_n hx hb dX0_takes_18 rfl (lv_at hl 1 rfl) ?_
  obtain ⟨fs0, g16, hM0, hx0, hw⟩ := hw
  refine z_getN hC hZ hM0 zc25 1 (by decide) q1374 (fun _ h9 => h9) hx0 dX0_takes_19 ?_
  obtain ⟨fs0, hM0, hb0, hk0, hw⟩ := hw
  refine z_put hC hZ hM0 hb0 zc0 2 (by decide) q401 (fun _ h9 => h9) (by decide) rfl rfl hk0 dX0_takes_22 (fun H locs hZ => ?_)
  generalize zu M _ _ = M at hw hZ
  refine lv_aload_n hx hb dX0_takes_25 rfl (lv_at hl 0 rfl) ?_
  obtain ⟨fs0, g17, hM0, hx0, hw⟩ := hw
  refine z_get hC hZ hM0 zc0 2 (by decide) q401 (fun _ h9 => h9) hx0 dX0_takes_26 ?_
  exact z_iret hG hZ hk hn hw dX0_takes_29
abbrev rm_X0_shape (K N : Nat) : Room := { frames := 4, cells := K, slots := N, locals := 143 }
def wp_X0_shape_L64 (D : zD) (post : Int32 → zM → Prop) (o : Nat) (k : Nat) (n : Nat) (M : zM) : Prop :=
    post (-1 : Int32) M
set_option maxHeartbeats 4000000 in
set_option maxRecDepth 100000 in
theorem wk_X0_shape_L64 {p : Program} {l : Launch} {e : Env} {s : State} {m : MethodId} {args : Array Value} {below : List Frame} {meth : Method} {c : Code} {D : zD} {post : Int32 → zM → Prop} {K N : Nat} {o : Nat} (hG : zGx p l s m args meth c cX0_shape 9 "PluralBranches" D (some .int) "shape" []) : ∀ {H : Heap} {locs : List Loc} {cells slots : Nat} {ls : Array Slot} (k : Nat) (n : Nat) (M : zM), cells + k ≤ K → slots + n ≤ N → zS D M H locs → lv_has ls 9 [] → wp_X0_shape_L64 D post o k n M → W p l e (rm_X0_shape K N) s m args below meth c H locs cells slots (vx_MQ below (zQ D zI post) (zX D (fun _ _ => False)) args s K N (zA D)) (F0 m 64 ls []) := by
  have hC := hG.1
  have hx := hC.x
  have hb := hC.b
  have hown := hC.o
  have hts := hC.ts
  have hlt := hG.2.2.2.2.2
  intro H locs cells slots ls k n M hk hn hZ hl hw
  refine lv_iconst (v := (-1)) hx hb dX0_shape_64 (by decide) ?_
  exact z_iret hG hZ (by omega) (by omega) hw dX0_shape_65
def wp_X0_shape_L100 (D : zD) (post : Int32 → zM → Prop) (o : Nat) (k : Nat) (n : Nat) (x2 : Int32) (x3 : Int32) (x4 : Int32) (x5 : Int32) (x6 : Int32) (x8 : Option Nat) (y0 : Option Nat) (y1 : Option Nat) (y2 : Int32) (M : zM) : Prop :=
    ((zd y1 fun b1 => wp_X19_init D (fun _ M => (znew D M 1 6 [.int 0, .int 0, .long 0, .long 0, .int 0, .long 0] k n fun b5 M => (wp_X1_init_2 D (fun _ M => ((zd y0 fun b9 => (zis M b9 [17] ∧ wp_X19_write D (fun _ M => ((zis M o [0] ∧ wp_X0_takes D (fun r13 M => post r13 M) o x8 M))) b9 (some b5) x8 M)))) b5 x2 x3 M))) b1 y2 x4 x5 x6 M))
set_option maxHeartbeats 4000000 in
set_option maxRecDepth 100000 in
theorem wk_X0_shape_L100 {p : Program} {l : Launch} {e : Env} {s : State} {m : MethodId} {args : Array Value} {below : List Frame} {meth : Method} {c : Code} {D : zD} {post : Int32 → zM → Prop} {K N : Nat} {o : Nat} (hG : zGx p l s m args meth c cX0_shape 9 "PluralBranches" D (some .int) "shape" []) : ∀ {H : Heap} {locs : List Loc} {cells slots : Nat} {ls : Array Slot} (k : Nat) (n : Nat) (x2 : Int32) (x3 : Int32) (x4 : Int32) (x5 : Int32) (x6 : Int32) (x8 : Option Nat) (y0 : Option Nat) (y1 : Option Nat) (y2 : Int32) (M : zM), cells + k ≤ K → slots + n ≤ N → zS D M H locs → lv_has ls 9 [(0, .ref o), (2, .int x2), (3, .int x3), (4, .int x4), (5, .int x5), (6, .int x6), (8, va_rf x8)] → wp_X0_shape_L100 D post o k n x2 x3 x4 x5 x6 x8 y0 y1 y2 M → W p l e (rm_X0_shape K N) s m args below meth c H locs cells slots (vx_MQ below (zQ D zI post) (zX D (fun _ _ => False)) args s K N (zA D)) (F0 m 100 ls [.int y2, va_rf y1, va_rf y0]) := by
  have hC := hG.1
  have hx := hC.x
  have hb := hC.b
  have hown := hC.o
  have hts := hC.ts
  have hlt := hG.2.2.2.2.2
  intro H locs cells slots ls k n x2 x3 x4 x5 x6 x8 y0 y1 y2 M hk hn hZ hl hw
  refine lv_iload hx hb dX0_shape_100 (lv_at hl 3 rfl) ?_
  refine lv_iload hx hb dX0_shape_102 (lv_at hl 4 rfl) ?_
  refine lv_iload hx hb dX0_shape_104 (lv_at hl 5 rfl) ?_
  obtain ⟨b16, hr0, hw⟩ := hw
  subst hr0
  refine z_callU hZ (vx_runI (As := [.int y2, .int x4, .int x5, .int x6]) (rest := [va_rf y0]) hC.fix (w_X19_init hlt hw) (cwI 4 hts (lw_meth q777) rfl rfl rfl (hts _ q98) (hts _ q1611) (hts _ q776) rfl dd_X19_init ⟨Nat.le_of_ble_eq_true rfl, Nat.le_of_ble_eq_true rfl⟩) (z_preS hC hZ) rfl rfl hl.1 rfl (lv_room (Nat.le_trans (zrm1 (zcat _) zrm0) (Nat.le_of_ble_eq_true rfl))) dX0_shape_106 ⟨(show cells + 0 ≤ K by omega), (show slots + 0 ≤ N by omega)⟩) (fun r17 M H locs hw1 hZ => ?_) (fun q M H locs ci fs E T9 N9 hw hZ hc1 hM1 hb1 => False.elim hw)
  replace hw := hw1
  clear hw1
  refine W.cs (cells' := cells) (slots' := slots) rfl rfl ?_
  obtain ⟨hk1, hn1, hw⟩ := hw
  refine z_new (fs := [.int 0, .int 0, .long 0, .long 0, .int 0, .long 0]) hC hZ zc1 q128 q130 q68 (zdefs (N := 6) (ty := tyX1) (fs := [.int 0, .int 0, .long 0, .long 0, .int 0, .long 0]) (by decide)) (show cells + 1 ≤ K by omega) (show slots + 6 ≤ N by omega) dX0_shape_109 (fun b20 H hq0 hq1 hZ => ?_)
  replace hw := hw b20 hq0 hq1
  generalize zu M _ _ = M at hw hZ
  have hk : cells + 1 + (k - 1) ≤ K := by omega
  have hn : slots + 6 + (n - 6) ≤ N := by omega
  generalize cells + 1 = cells at hk ⊢
  generalize slots + 6 = slots at hn ⊢
  clear hk1 hn1
  refine lv_dup hx hb dX0_shape_112 rfl ?_
  refine lv_iload_n hx hb dX0_shape_113 rfl (lv_at hl 1 rfl) ?_
  refine lv_iload_n hx hb dX0_shape_114 rfl (lv_at hl 2 rfl) ?_
  refine z_callU hZ (vx_runI (As := [.int x2, .int x3]) (rest := [.ref b20, va_rf y0]) hC.fix (w_X1_init_2 hlt hw) (cwI 2 hts (lw_meth q136) rfl rfl rfl (hts _ q68) (hts _ q176) (hts _ q135) rfl dd_X1_init_2 ⟨Nat.le_of_ble_eq_true rfl, Nat.le_of_ble_eq_true rfl⟩) (z_preS hC hZ) rfl rfl hl.1 rfl (lv_room (Nat.le_trans (zrm1 rfl (zrm1 (zcat _) zrm0)) (Nat.le_of_ble_eq_true rfl))) dX0_shape_115 ⟨(show cells + 0 ≤ K by omega), (show slots + 0 ≤ N by omega)⟩) (fun r21 M H locs hw1 hZ => ?_) (fun q M H locs ci fs E T9 N9 hw hZ hc1 hM1 hb1 => False.elim hw)
  replace hw := hw1
  clear hw1
  refine W.cs (cells' := cells) (slots' := slots) rfl rfl ?_
  refine z_aload hC dX0_shape_118 (lv_at hl 6 rfl) ?_
  obtain ⟨b24, hr0, hw⟩ := hw
  subst hr0
  obtain ⟨⟨ci0, fs0, hci0, hM0⟩, hw⟩ := hw
  obtain rfl : ci0 = 17 := List.mem_singleton.mp hci0
  refine z_callU hZ (vx_runV (As := [.ref b20, va_rf x8]) (rest := []) hC.fix (w_X19_write hlt hw) (cwV 2 hts (lw_V q1612 q1558 q1559 q98 q1560) rfl rfl rfl ⟨rfl, dd_X19_write⟩ ⟨Nat.le_of_ble_eq_true rfl, Nat.le_of_ble_eq_true rfl⟩) (z_preV hC hZ hM0 zc17) rfl rfl hl.1 rfl (lv_room (Nat.zero_le _)) dX0_shape_120 ⟨(show cells + 0 ≤ K by omega), (show slots + 0 ≤ N by omega)⟩) (fun r25 M H locs hw1 hZ => ?_) (fun q M H locs ci fs E T9 N9 hw hZ hc1 hM1 hb1 => False.elim hw)
  replace hw := hw1
  clear hw1
  refine W.cs (cells' := cells) (slots' := slots) rfl rfl ?_
  refine lv_aload_n hx hb dX0_shape_123 rfl (lv_at hl 0 rfl) ?_
  refine z_aload hC dX0_shape_124 (lv_at hl 6 rfl) ?_
  obtain ⟨⟨ci0, fs0, hci0, hM0⟩, hw⟩ := hw
  obtain rfl : ci0 = 0 := List.mem_singleton.mp hci0
  refine z_callI hZ (vx_runV (As := [va_rf x8]) (rest := []) hC.fix (w_X0_takes hlt hw) (cwV 1 hts (lw_V q1597 q1599 qs26 q67 q1600) rfl rfl rfl ⟨rfl, dd_X0_takes⟩ ⟨Nat.le_of_ble_eq_true rfl, Nat.le_of_ble_eq_true rfl⟩) (z_preV hC hZ hM0 zc0) rfl rfl hl.1 rfl (lv_room (Nat.zero_le _)) dX0_shape_126 ⟨(show cells + 0 ≤ K by omega), (show slots + 0 ≤ N by omega)⟩) (fun r28 M H locs hw1 hZ => ?_) (fun q M H locs ci fs E T9 N9 hw hZ hc1 hM1 hb1 => False.elim hw)
  replace hw := hw1
  clear hw1
  refine W.cs (cells' := cells) (slots' := slots) rfl rfl ?_
  exact z_iret hG hZ (by omega) (by omega) hw dX0_shape_129
def wp_X0_shape (D : zD) (post : Int32 → zM → Prop) (k : Nat) (n : Nat) (o : Nat) (a0 : Int32) (a1 : Int32) (a2 : Int32) (a3 : Int32) (a4 : Int32) (a5 : Int32) (a6 : Int32) (M : zM) : Prop :=
    (wp_X0_isLanguage D (fun r31 M => ((r31 = 0 → wp_X0_shape_L64 D post o k n M) ∧ (¬ r31 = 0 → (wp_X0_isScale D (fun r34 M => ((r34 = 0 → wp_X0_shape_L64 D post o k n M) ∧ (¬ r34 = 0 → (wp_X0_in D (fun r37 M => ((r37 = 0 → wp_X0_shape_L64 D post o k n M) ∧ (¬ r37 = 0 → (wp_X0_in D (fun r40 M => ((r40 = 0 → wp_X0_shape_L64 D post o k n M) ∧ (¬ r40 = 0 → (wp_X0_in D (fun r43 M => ((r43 = 0 → wp_X0_shape_L64 D post o k n M) ∧ (¬ r43 = 0 → (wp_X0_in D (fun r46 M => ((¬ r46 = 0 → (znew D M 25 5 [.null, .int 0, .null, .null, .null] k n fun b49 M => (zgR M o 0 0 fun g50 => ((zd g50 fun b51 => zaR M b51 6 a0 fun v52 => (znewA D M 9 (0 : Int32) (k - 1) (n - 5) fun b53 M => ((∃ k55 n56, k55 ≤ ((k - 1) - 1) ∧ n56 ≤ ((n - 5) - (0 : Int32).toNatClampNeg) ∧ wp_X28_init D (fun _ M => (znew D M 17 4 [.int 0, .int 0, .int 0, .int 0] (((k - 1) - 1) - k55) (((n - 5) - (0 : Int32).toNatClampNeg) - n56) fun b57 M => ((¬ a6 = (1 : Int32) → wp_X0_shape_L100 D post o ((((k - 1) - 1) - k55) - 1) ((((n - 5) - (0 : Int32).toNatClampNeg) - n56) - 4) a1 a2 a3 a4 a5 (some b49) (some b57) (some b57) (0 : Int32) M) ∧ (a6 = (1 : Int32) → wp_X0_shape_L100 D post o ((((k - 1) - 1) - k55) - 1) ((((n - 5) - (0 : Int32).toNatClampNeg) - n56) - 4) a1 a2 a3 a4 a5 (some b49) (some b57) (some b57) (1 : Int32) M)))) k55 n56 b49 v52 (some b53) M)))))))) ∧ (r46 = 0 → wp_X0_shape_L64 D post o k n M))) (a6.toInt64) (0 : Int64) (1 : Int64) M)))) (a5.toInt64) (0 : Int64) (3 : Int64) M)))) (a4.toInt64) (0 : Int64) (3 : Int64) M)))) (a3.toInt64) (1 : Int64) (4 : Int64) M)))) a2 M)))) a0 M)
set_option maxHeartbeats 4000000 in
set_option maxRecDepth 100000 in
theorem w_X0_shape {l : Launch} {D : zD} {post : Int32 → zM → Prop} (hlt : l.stackTraces = false) {k : Nat} {n : Nat} {o : Nat} {a0 : Int32} {a1 : Int32} {a2 : Int32} {a3 : Int32} {a4 : Int32} {a5 : Int32} {a6 : Int32} {M : zM} (hw : wp_X0_shape D post k n o a0 a1 a2 a3 a4 a5 a6 M) : zMet l D yX0_shape (ws_ yX0_shape cX0_shape 9 (some .int)) (rm_X0_shape k n) k n [.ref o, .int a0, .int a1, .int a2, .int a3, .int a4, .int a5, .int a6] M zI post (fun _ _ => False) := by
  unfold wp_X0_shape at hw
  have hlv : lv_args 0 [.ref o, .int a0, .int a1, .int a2, .int a3, .int a4, .int a5, .int a6] = [(0, .ref o), (1, .int a0), (2, .int a1), (3, .int a2), (4, .int a3), (5, .int a4), (6, .int a5), (7, .int a6)] := (zargs1 rfl (zargs1 rfl (zargs1 rfl (zargs1 rfl (zargs1 rfl (zargs1 rfl (zargs1 rfl (zargs1 rfl rfl))))))))
  refine z_ofW hlt (by decide) (Nat.le_trans (zsl1 rfl (zsl1 rfl (zsl1 rfl (zsl1 rfl (zsl1 rfl (zsl1 rfl (zsl1 rfl (zsl1 rfl (Nat.le_refl 0 : (lg_sl []).length ≤ 0))))))))) (Nat.le_of_ble_eq_true rfl)) hlv ?_
  intro p e s m args below meth c ls hG hZ hl
  have hC := hG.1
  have hx := hC.x
  have hb := hC.b
  have hown := hC.o
  have hts := hC.ts
  have hlt := hG.2.2.2.2.2
  obtain ⟨cells, hce⟩ : ∃ z : Nat, z = 0 := ⟨0, rfl⟩
  obtain ⟨slots, hsl⟩ : ∃ z : Nat, z = 0 := ⟨0, rfl⟩
  refine W.cs (cells' := cells) (slots' := slots) hce.symm hsl.symm ?_
  have hk : cells + k ≤ k := by omega
  have hn : slots + n ≤ n := by omega
  clear hce hsl
  refine lv_iload_n hx hb dX0_shape_0 rfl (lv_at hl 1 rfl) ?_
  refine z_callI hZ (vx_runS (As := [.int a0]) (rest := []) hC.fix (w_X0_isLanguage hlt hw) (va_cwS 1 hts (lw_S q447 q448 q67 q449) rfl rfl rfl dd_X0_isLanguage ⟨Nat.le_of_ble_eq_true rfl, Nat.le_of_ble_eq_true rfl⟩) (z_preS hC hZ) rfl rfl hl.1 rfl (lv_room (Nat.zero_le _)) dX0_shape_1 ⟨(show cells + 0 ≤ k by omega), (show slots + 0 ≤ n by omega)⟩) (fun r65 M H locs hw1 hZ => ?_) (fun q M H locs ci fs E T9 N9 hw hZ hc1 hM1 hb1 => False.elim hw)
  replace hw := hw1
  clear hw1
  refine W.cs (cells' := cells) (slots' := slots) rfl rfl ?_
  refine lv_if_eq (tgt := 64) hx hb dX0_shape_4 (by decide) (fun c98 => ?_) (fun c98 => ?_)
  · replace hw := hw.1 c98
    exact wk_X0_shape_L64 hG _ _ _ hk hn hZ (lv_sub hl [] rfl) hw
  · replace hw := hw.2 c98
    refine lv_iload_n hx hb dX0_shape_7 rfl (lv_at hl 3 rfl) ?_
    refine z_callI hZ (vx_runS (As := [.int a2]) (rest := []) hC.fix (w_X0_isScale hlt hw) (va_cwS 1 hts (lw_S q430 q431 q67 q432) rfl rfl rfl dd_X0_isScale ⟨Nat.le_of_ble_eq_true rfl, Nat.le_of_ble_eq_true rfl⟩) (z_preS hC hZ) rfl rfl hl.1 rfl (lv_room (Nat.zero_le _)) dX0_shape_8 ⟨(show cells + 0 ≤ k by omega), (show slots + 0 ≤ n by omega)⟩) (fun r68 M H locs hw1 hZ => ?_) (fun q M H locs ci fs E T9 N9 hw hZ hc1 hM1 hb1 => False.elim hw)
    replace hw := hw1
    clear hw1
    refine W.cs (cells' := cells) (slots' := slots) rfl rfl ?_
    refine lv_if_eq (tgt := 64) hx hb dX0_shape_11 (by decide) (fun c97 => ?_) (fun c97 => ?_)
    · replace hw := hw.1 c97
      exact wk_X0_shape_L64 hG _ _ _ hk hn hZ (lv_sub hl [] rfl) hw
    · replace hw := hw.2 c97
      refine lv_iload hx hb dX0_shape_14 (lv_at hl 4 rfl) ?_
      refine lv_i2l hx hb dX0_shape_16 rfl ?_
      refine lv_lconst (v := 1) hx hb dX0_shape_17 (by decide) ?_
      refine lv_ldc2 hx hb hown (hts _ q437) dX0_shape_18 ?_
      refine z_callI hZ (vx_runS (As := [.long (a3.toInt64), .long (1 : Int64), .long (4 : Int64)]) (rest := []) hC.fix (w_X0_in hlt hw) (va_cwS 3 hts (lw_S q434 q435 q67 q436) rfl rfl rfl dd_X0_in ⟨Nat.le_of_ble_eq_true rfl, Nat.le_of_ble_eq_true rfl⟩) (z_preS hC hZ) rfl rfl hl.1 rfl (lv_room (Nat.zero_le _)) dX0_shape_21 ⟨(show cells + 0 ≤ k by omega), (show slots + 0 ≤ n by omega)⟩) (fun r71 M H locs hw1 hZ => ?_) (fun q M H locs ci fs E T9 N9 hw hZ hc1 hM1 hb1 => False.elim hw)
      replace hw := hw1
      clear hw1
      refine W.cs (cells' := cells) (slots' := slots) rfl rfl ?_
      refine lv_if_eq (tgt := 64) hx hb dX0_shape_24 (by decide) (fun c96 => ?_) (fun c96 => ?_)
      · replace hw := hw.1 c96
        exact wk_X0_shape_L64 hG _ _ _ hk hn hZ (lv_sub hl [] rfl) hw
      · replace hw := hw.2 c96
        refine lv_iload hx hb dX0_shape_27 (lv_at hl 5 rfl) ?_
        refine lv_i2l hx hb dX0_shape_29 rfl ?_
        refine lv_lconst (v := 0) hx hb dX0_shape_30 (by decide) ?_
        refine lv_ldc2 hx hb hown (hts _ q531) dX0_shape_31 ?_
        refine z_callI hZ (vx_runS (As := [.long (a4.toInt64), .long (0 : Int64), .long (3 : Int64)]) (rest := []) hC.fix (w_X0_in hlt hw) (va_cwS 3 hts (lw_S q434 q435 q67 q436) rfl rfl rfl dd_X0_in ⟨Nat.le_of_ble_eq_true rfl, Nat.le_of_ble_eq_true rfl⟩) (z_preS hC hZ) rfl rfl hl.1 rfl (lv_room (Nat.zero_le _)) dX0_shape_34 ⟨(show cells + 0 ≤ k by omega), (show slots + 0 ≤ n by omega)⟩) (fun r74 M H locs hw1 hZ => ?_) (fun q M H locs ci fs E T9 N9 hw hZ hc1 hM1 hb1 => False.elim hw)
        replace hw := hw1
        clear hw1
        refine W.cs (cells' := cells) (slots' := slots) rfl rfl ?_
        refine lv_if_eq (tgt := 64) hx hb dX0_shape_37 (by decide) (fun c95 => ?_) (fun c95 => ?_)
        · replace hw := hw.1 c95
          exact wk_X0_shape_L64 hG _ _ _ hk hn hZ (lv_sub hl [] rfl) hw
        · replace hw := hw.2 c95
          refine lv_iload hx hb dX0_shape_40 (lv_at hl 6 rfl) ?_
          refine lv_i2l hx hb dX0_shape_42 rfl ?_
          refine lv_lconst (v := 0) hx hb dX0_shape_43 (by decide) ?_
          refine lv_ldc2 hx hb hown (hts _ q531) dX0_shape_44 ?_
          refine z_callI hZ (vx_runS (As := [.long (a5.toInt64), .long (0 : Int64), .long (3 : Int64)]) (rest := []) hC.fix (w_X0_in hlt hw) (va_cwS 3 hts (lw_S q434 q435 q67 q436) rfl rfl rfl dd_X0_in ⟨Nat.le_of_ble_eq_true rfl, Nat.le_of_ble_eq_true rfl⟩) (z_preS hC hZ) rfl rfl hl.1 rfl (lv_room (Nat.zero_le _)) dX0_shape_47 ⟨(show cells + 0 ≤ k by omega), (show slots + 0 ≤ n by omega)⟩) (fun r77 M H locs hw1 hZ => ?_) (fun q M H locs ci fs E T9 N9 hw hZ hc1 hM1 hb1 => False.elim hw)
          replace hw := hw1
          clear hw1
          refine W.cs (cells' := cells) (slots' := slots) rfl rfl ?_
          refine lv_if_eq (tgt := 64) hx hb dX0_shape_50 (by decide) (fun c94 => ?_) (fun c94 => ?_)
          · replace hw := hw.1 c94
            exact wk_X0_shape_L64 hG _ _ _ hk hn hZ (lv_sub hl [] rfl) hw
          · replace hw := hw.2 c94
            refine lv_iload hx hb dX0_shape_53 (lv_at hl 7 rfl) ?_
            refine lv_i2l hx hb dX0_shape_55 rfl ?_
            refine lv_lconst (v := 0) hx hb dX0_shape_56 (by decide) ?_
            refine lv_lconst (v := 1) hx hb dX0_shape_57 (by decide) ?_
            refine z_callI hZ (vx_runS (As := [.long (a6.toInt64), .long (0 : Int64), .long (1 : Int64)]) (rest := []) hC.fix (w_X0_in hlt hw) (va_cwS 3 hts (lw_S q434 q435 q67 q436) rfl rfl rfl dd_X0_in ⟨Nat.le_of_ble_eq_true rfl, Nat.le_of_ble_eq_true rfl⟩) (z_preS hC hZ) rfl rfl hl.1 rfl (lv_room (Nat.zero_le _)) dX0_shape_58 ⟨(show cells + 0 ≤ k by omega), (show slots + 0 ≤ n by omega)⟩) (fun r80 M H locs hw1 hZ => ?_) (fun q M H locs ci fs E T9 N9 hw hZ hc1 hM1 hb1 => False.elim hw)
            replace hw := hw1
            clear hw1
            refine W.cs (cells' := cells) (slots' := slots) rfl rfl ?_
            refine lv_if_ne (tgt := 66) hx hb dX0_shape_61 (by decide) (fun c93 => ?_) (fun c93 => ?_)
            · replace hw := hw.1 c93
              obtain ⟨hk1, hn1, hw⟩ := hw
              refine z_new (fs := [.null, .int 0, .null, .null, .null]) hC hZ zc25 q1365 q1366 q113 (zdefs (N := 5) (ty := tyX28) (fs := [.null, .int 0, .null, .null, .null]) (by decide)) (show cells + 1 ≤ k by omega) (show slots + 5 ≤ n by omega) dX0_shape_66 (fun b83 H hq0 hq1 hZ => ?_)
              replace hw := hw b83 hq0 hq1
              generalize zu M _ _ = M at hw hZ
              have hk : cells + 1 + (k - 1) ≤ k := by omega
              have hn : slots + 5 + (n - 5) ≤ n := by omega
              generalize cells + 1 = cells at hk ⊢
              generalize slots + 5 = slots at hn ⊢
              clear hk1 hn1
              refine lv_dup hx hb dX0_shape_69 rfl ?_
              refine lv_aload_n hx hb dX0_shape_70 rfl (lv_at hl 0 rfl) ?_
              obtain ⟨fs0, g84, hM0, hx0, hw⟩ := hw
              refine z_get hC hZ hM0 zc0 0 (by decide) q399 (fun _ h9 => h9) hx0 dX0_shape_71 ?_
              refine lv_iload_n hx hb dX0_shape_74 rfl (lv_at hl 1 rfl) ?_
              obtain ⟨b85, hr0, hw⟩ := hw
              subst hr0
              obtain ⟨n0, f0, v86, hM0, hi0, hr0, hw⟩ := hw
              refine z_aald hC hZ hM0 (by decide) rfl hi0 hr0 dX0_shape_75 ?_
              refine lv_iconst (v := 0) hx hb dX0_shape_76 (by decide) ?_
              obtain ⟨hx1, hx2, hk1, hn1, hw⟩ := hw
              refine z_newq (k := 9) hC hZ q385 (by decide) rfl hx1 rfl (z_bytes hx2 (by decide)) (show cells + 1 ≤ k by omega) (show slots + (0 : Int32).toNatClampNeg ≤ n by omega) dX0_shape_77 (fun b87 H hq0 hq1 hZ => ?_)
              replace hw := hw b87 hq0 hq1
              replace hZ : zS D (zu M b87 (some (.inl (9, zna 9 (0 : Int32).toNatClampNeg)))) _ _ := hZ
              refine W.cs (cells' := cells + 1) (slots' := slots + (0 : Int32).toNatClampNeg) rfl rfl ?_
              generalize zu M _ _ = M at hw hZ
              have hk : cells + 1 + ((k - 1) - 1) ≤ k := by omega
              have hn : slots + (0 : Int32).toNatClampNeg + ((n - 5) - (0 : Int32).toNatClampNeg) ≤ n := by omega
              generalize cells + 1 = cells at hk ⊢
              generalize slots + (0 : Int32).toNatClampNeg = slots at hn ⊢
              clear hk1 hn1 hx1 hx2
              obtain ⟨k89, n90, hk1, hn1, hw⟩ := hw
              refine z_callU hZ (vx_runI (As := [va_rf v86, .ref b87]) (rest := [.ref b83]) hC.fix (w_X28_init hlt hw) (cwI 2 hts (lw_meth q1369) rfl rfl rfl (hts _ q113) (hts _ q1367) (hts _ q1368) rfl dd_X28_init ⟨Nat.le_of_ble_eq_true rfl, Nat.le_of_ble_eq_true rfl⟩) (z_preS hC hZ) rfl rfl hl.1 rfl (lv_room (Nat.le_trans (zrm1 rfl zrm0) (Nat.le_of_ble_eq_true rfl))) dX0_shape_80 ⟨(show cells + k89 ≤ k by omega), (show slots + n90 ≤ n by omega)⟩) (fun r88 M H locs hw1 hZ => ?_) (fun q M H locs ci fs E T9 N9 hw hZ hc1 hM1 hb1 => False.elim hw)
              replace hw := hw1
              clear hw1
              have hk : cells + k89 + (((k - 1) - 1) - k89) ≤ k := by omega
              have hn : slots + n90 + (((n - 5) - (0 : Int32).toNatClampNeg) - n90) ≤ n := by omega
              generalize cells + k89 = cells at hk ⊢
              generalize slots + n90 = slots at hn ⊢
              clear hk1 hn1
              refine lv_astore (i := 8) (lv' := [(8, .ref b83), (0, .ref o), (1, .int a0), (2, .int a1), (3, .int a2), (4, .int a3), (5, .int a4), (6, .int a5), (7, .int a6)]) hx hb dX0_shape_83 hl (by decide) rfl (fun ls hl1 => ?_)
              replace hl := hl1
              clear hl1
              obtain ⟨hk1, hn1, hw⟩ := hw
              refine z_new (fs := [.int 0, .int 0, .int 0, .int 0]) hC hZ zc17 q1610 q774 q98 (zdefs (N := 4) (ty := tyX19) (fs := [.int 0, .int 0, .int 0, .int 0]) (by decide)) (show cells + 1 ≤ k by omega) (show slots + 4 ≤ n by omega) dX0_shape_85 (fun b91 H hq0 hq1 hZ => ?_)
              replace hw := hw b91 hq0 hq1
              generalize zu M _ _ = M at hw hZ
              have hk : cells + 1 + ((((k - 1) - 1) - k89) - 1) ≤ k := by omega
              have hn : slots + 4 + ((((n - 5) - (0 : Int32).toNatClampNeg) - n90) - 4) ≤ n := by omega
              generalize cells + 1 = cells at hk ⊢
              generalize slots + 4 = slots at hn ⊢
              clear hk1 hn1
              refine lv_dup hx hb dX0_shape_88 rfl ?_
              refine lv_iload hx hb dX0_shape_89 (lv_at hl 8 rfl) ?_
              refine lv_iconst (v := 1) hx hb dX0_shape_91 (by decide) ?_
              refine lv_icmp_ne (tgt := 99) hx hb dX0_shape_92 (by decide) (fun c92 => ?_) (fun c92 => ?_)
              · replace hw := hw.1 c92
                refine lv_iconst (v := 0) hx hb dX0_shape_99 (by decide) ?_
                exact wk_X0_shape_L100 hG _ _ _ _ _ _ _ _ _ _ _ _ hk hn hZ (lv_sub hl [1, 3, 4, 5, 6, 7, 0] rfl) hw
              · replace hw := hw.2 c92
                refine lv_iconst (v := 1) hx hb dX0_shape_95 (by decide) ?_
                refine lv_goto (tgt := 100) hx hb dX0_shape_96 (by decide) ?_
                exact wk_X0_shape_L100 hG _ _ _ _ _ _ _ _ _ _ _ _ hk hn hZ (lv_sub hl [1, 3, 4, 5, 6, 7, 0] rfl) hw
            · replace hw := hw.2 c93
              exact wk_X0_shape_L64 hG _ _ _ hk hn hZ (lv_sub hl [] rfl) hw
abbrev rm_X13_depth : Room := { frames := 1, cells := 0, slots := 0, locals := 64 }
def wp_X13_depth (D : zD) (post : Int32 → zM → Prop) (o : Nat) (M : zM) : Prop :=
    post (0 : Int32) M
set_option maxHeartbeats 4000000 in
set_option maxRecDepth 100000 in
theorem w_X13_depth {l : Launch} {D : zD} {post : Int32 → zM → Prop} (hlt : l.stackTraces = false) {o : Nat} {M : zM} (hw : wp_X13_depth D post o M) : zMet l D yX13_depth (ws_ yX13_depth cX13_depth 1 (some .int)) rm_X13_depth 0 0 [.ref o] M zI post (fun _ _ => False) := by
  unfold wp_X13_depth at hw
  have hlv : lv_args 0 [.ref o] = [(0, .ref o)] := (zargs1 rfl rfl)
  refine z_ofW hlt (by decide) (Nat.le_trans (zsl1 rfl (Nat.le_refl 0 : (lg_sl []).length ≤ 0)) (Nat.le_of_ble_eq_true rfl)) hlv ?_
  intro p e s m args below meth c ls hG hZ hl
  have hC := hG.1
  have hx := hC.x
  have hb := hC.b
  have hown := hC.o
  have hts := hC.ts
  have hlt := hG.2.2.2.2.2
  obtain ⟨cells, hce⟩ : ∃ z : Nat, z = 0 := ⟨0, rfl⟩
  obtain ⟨slots, hsl⟩ : ∃ z : Nat, z = 0 := ⟨0, rfl⟩
  refine W.cs (cells' := cells) (slots' := slots) hce.symm hsl.symm ?_
  have hk : cells ≤ 0 := Nat.le_of_eq hce
  have hn : slots ≤ 0 := Nat.le_of_eq hsl
  clear hce hsl
  refine lv_iconst (v := 0) hx hb dX13_depth_0 (by decide) ?_
  exact z_iret hG hZ hk hn hw dX13_depth_1
abbrev rm_X20_depth (d : Nat) (K N : Nat) : Room := { frames := 4 + 2 * d, cells := K, slots := N, locals := 129 + 46 * d }
abbrev rm_X12_depth (d : Nat) (K N : Nat) : Room := { frames := 3 + 2 * d, cells := K, slots := N, locals := 106 + 46 * d }
def wp_X20_depth_L10 (D : zD) (P : (Int32 → zM → Prop) → Nat → Nat → Nat → zM → Prop) (post : Int32 → zM → Prop) (o : Nat) : Nat → Nat → Nat → Int32 → Option Nat → zM → Prop
  | 0 => fun _ _ _ _ _ => False
  | f + 1 => fun k n x1 x2 M =>
    ((zd x2 fun b1 => (zis M b1 [27] ∧ wp_J15_hasNext D (fun r2 M => ((r2 = 0 → post ((1 : Int32) + x1) M) ∧ (¬ r2 = 0 → ((zis M b1 [27] ∧ wp_J15_next D (fun r5 M => ((∀ w, r5 = some w → zis M w [20]) ∧ ((zd r5 fun b8 => zgR M b8 20 1 fun g9 => ((zd g9 fun b10 => (zis M b10 [11] ∧ (∃ k12 n13, k12 ≤ k ∧ n13 ≤ n ∧ P (fun r11 M => (wp_J0_max D (fun r14 M => wp_X20_depth_L10 D P post o f (k - k12) (n - n13) r14 (some b1) M) x1 r11 M)) k12 n13 b10 M)))))))) b1 M))))) b1 M)))
set_option maxHeartbeats 4000000 in
set_option maxRecDepth 100000 in
theorem wk_X20_depth_L10 {p : Program} {l : Launch} {e : Env} {s : State} {m : MethodId} {args : Array Value} {below : List Frame} {meth : Method} {c : Code} {D : zD} {P : (Int32 → zM → Prop) → Nat → Nat → Nat → zM → Prop} {post : Int32 → zM → Prop} {K N : Nat} {d : Nat} {o : Nat} (hG : zGx p l s m args meth c cX20_depth 4 "PluralBranches$Choice" D (some .int) "depth" []) (hP : ∀ (post : Int32 → zM → Prop) (k n : Nat) (o : Nat) (M : zM), P post k n o M → zMet l D yX12_depth (ws_ yX12_depth cX12_depth 4 (some .int)) (rm_X12_depth d k n) k n [.ref o] M zI post (fun _ _ => False)) : ∀ (f : Nat), ∀ {H : Heap} {locs : List Loc} {cells slots : Nat} {ls : Array Slot} (k : Nat) (n : Nat) (x1 : Int32) (x2 : Option Nat) (M : zM), cells + k ≤ K → slots + n ≤ N → zS D M H locs → lv_has ls 4 [(1, .int x1), (2, va_rf x2)] → wp_X20_depth_L10 D P post o f k n x1 x2 M → W p l e (rm_X20_depth d K N) s m args below meth c H locs cells slots (vx_MQ below (zQ D zI post) (zX D (fun _ _ => False)) args s K N (zA D)) (F0 m 10 ls []) := by
  have hC := hG.1
  have hx := hC.x
  have hb := hC.b
  have hown := hC.o
  have hts := hC.ts
  have hlt := hG.2.2.2.2.2
  intro f
  induction f with
  | zero =>
    intro H locs cells slots ls k n x1 x2 M hk hn hZ hl hw
    exact absurd hw (fun h => h)
  | succ f ih =>
    intro H locs cells slots ls k n x1 x2 M hk hn hZ hl hw
    refine z_aload_n hC dX20_depth_10 rfl (lv_at hl 1 rfl) ?_
    obtain ⟨b18, hr0, hw⟩ := hw
    subst hr0
    obtain ⟨⟨ci0, fs0, hci0, hM0⟩, hw⟩ := hw
    obtain ⟨C0, T0, N0, ty0, hc0, hsel0, hf0⟩ : ∃ (C0 : String) (T0 : u_T) (N0 : Nat) (ty0 : Nat → FieldType), zCls ci0 C0 T0 N0 ty0 ∧ Cond.selects C0 ⟨"java/util/Iterator", "hasNext", "()Z"⟩ yJ15_hasNext ∈ lw_all ∧ (C0, ⟨"java/util/Iterator", "hasNext", "()Z"⟩, yJ15_hasNext) ∈ zFs := (zal ⟨_, _, _, _, zc27, q1041, List.mem_of_getElem? (i := 0) rfl⟩ (za0) : ∀ ci ∈ [27], ∃ (C0 : String) (T0 : u_T) (N0 : Nat) (ty0 : Nat → FieldType), zCls ci C0 T0 N0 ty0 ∧ Cond.selects C0 ⟨"java/util/Iterator", "hasNext", "()Z"⟩ yJ15_hasNext ∈ lw_all ∧ (C0, ⟨"java/util/Iterator", "hasNext", "()Z"⟩, yJ15_hasNext) ∈ zFs) ci0 hci0
    refine z_callI5 hZ (vx_runF (As := []) (rest := []) (hC.vK.1 _ _ hc0.1).2 hC.fix (w_J15_hasNext hlt hw) (va_cwF 0 hts (lw_app (zal q1068 (zal hsel0 (zal q1043 (zal q108 za0)))) (lw_meth q1045)) rfl rfl rfl (hC.K.2.2.2.1 _ hf0) (by decide +kernel) ⟨(show 1 + 1 ≤ 4 + 2 * d by omega), (show 8 + (1 + 11) + (64) ≤ 129 + 46 * d by omega)⟩) (z_preV hC hZ hM0 hc0) rfl rfl hl.1 rfl (lv_room (Nat.zero_le _)) dX20_depth_11 ⟨(show cells + 0 ≤ K by omega), (show slots + 0 ≤ N by omega)⟩) (fun r19 M H locs hw1 hZ => ?_) (fun q M H locs ci fs E T9 N9 hw hZ hc1 hM1 hb1 => False.elim hw)
    replace hw := hw1
    clear hw1
    refine W.cs (cells' := cells) (slots' := slots) rfl rfl ?_
    refine lv_if_eq (tgt := 44) hx hb dX20_depth_16 (by decide) (fun c34 => ?_) (fun c34 => ?_)
    · replace hw := hw.1 c34
      refine lv_iconst (v := 1) hx hb dX20_depth_44 (by decide) ?_
      refine lv_iload_n hx hb dX20_depth_45 rfl (lv_at hl 0 rfl) ?_
      refine lv_iadd hx hb dX20_depth_46 ?_
      exact z_iret hG hZ (by omega) (by omega) hw dX20_depth_47
    · replace hw := hw.2 c34
      refine lv_aload_n hx hb dX20_depth_19 rfl (lv_at hl 1 rfl) ?_
      obtain ⟨⟨ci0, fs0, hci0, hM0⟩, hw⟩ := hw
      obtain ⟨C0, T0, N0, ty0, hc0, hsel0, hf0⟩ : ∃ (C0 : String) (T0 : u_T) (N0 : Nat) (ty0 : Nat → FieldType), zCls ci0 C0 T0 N0 ty0 ∧ Cond.selects C0 ⟨"java/util/Iterator", "next", "()Ljava/lang/Object;"⟩ yJ15_next ∈ lw_all ∧ (C0, ⟨"java/util/Iterator", "next", "()Ljava/lang/Object;"⟩, yJ15_next) ∈ zFs := (zal ⟨_, _, _, _, zc27, q1050, List.mem_of_getElem? (i := 1) rfl⟩ (za0) : ∀ ci ∈ [27], ∃ (C0 : String) (T0 : u_T) (N0 : Nat) (ty0 : Nat → FieldType), zCls ci C0 T0 N0 ty0 ∧ Cond.selects C0 ⟨"java/util/Iterator", "next", "()Ljava/lang/Object;"⟩ yJ15_next ∈ lw_all ∧ (C0, ⟨"java/util/Iterator", "next", "()Ljava/lang/Object;"⟩, yJ15_next) ∈ zFs) ci0 hci0
      refine z_callR5 hZ (vx_runF (As := []) (rest := []) (hC.vK.1 _ _ hc0.1).2 hC.fix (w_J15_next hlt hw) (va_cwF 0 hts (lw_app (zal q1070 (zal hsel0 (zal q1052 (zal q108 za0)))) (lw_meth q1054)) rfl rfl rfl (hC.K.2.2.2.1 _ hf0) (by decide +kernel) ⟨(show 2 + 1 ≤ 4 + 2 * d by omega), (show 8 + (3 + 11) + (84) ≤ 129 + 46 * d by omega)⟩) (z_preV hC hZ hM0 hc0) rfl rfl hl.1 rfl (lv_room (Nat.zero_le _)) dX20_depth_20 ⟨(show cells + 0 ≤ K by omega), (show slots + 0 ≤ N by omega)⟩) (fun r22 M H locs hw1 hZ => ?_) (fun q M H locs ci fs E T9 N9 hw hZ hc1 hM1 hb1 => False.elim hw)
      replace hw := hw1
      clear hw1
      refine W.cs (cells' := cells) (slots' := slots) rfl rfl ?_
      obtain ⟨hc0, hw⟩ := hw
      refine z_castO (r := r22) hC hZ hc0 (zal ⟨_, _, _, _, zc20, (Or.inl rfl)⟩ (za0)) q962 dX20_depth_25 ?_
      refine z_astore_n (i := 3) (lv' := [(3, va_rf r22), (1, .int x1), (2, .ref b18)]) hC dX20_depth_28 rfl hl (by decide) rfl (fun ls hl1 => ?_)
      replace hl := hl1
      clear hl1
      refine lv_iload_n hx hb dX20_depth_29 rfl (lv_at hl 1 rfl) ?_
      refine z_aload_n hC dX20_depth_30 rfl (lv_at hl 0 rfl) ?_
      obtain ⟨b25, hr0, hw⟩ := hw
      subst hr0
      obtain ⟨fs0, g26, hM0, hx0, hw⟩ := hw
      refine z_getN hC hZ hM0 zc20 1 (by decide) q976 (fun _ h9 => h9) hx0 dX20_depth_31 ?_
      obtain ⟨b27, hr0, hw⟩ := hw
      subst hr0
      obtain ⟨⟨ci0, fs0, hci0, hM0⟩, hw⟩ := hw
      obtain ⟨k29, n30, hk1, hn1, hw⟩ := hw
      obtain rfl : ci0 = 11 := List.mem_singleton.mp hci0
      refine z_callI hZ (vx_runV (As := []) (rest := [.int x1]) hC.fix (hP _ _ _ _ _ hw) (cwV 0 hts (lw_V q1071 q1010 q1011 q88 q1012) rfl rfl rfl ⟨rfl, dd_X12_depth⟩ ⟨(show 3 + 2 * d + 1 ≤ 4 + 2 * d by omega), (show 8 + (4 + 11) + (106 + 46 * d) ≤ 129 + 46 * d by omega)⟩) (z_preV hC hZ hM0 zc11) rfl rfl hl.1 rfl (lv_room (Nat.le_trans (zrm1 rfl zrm0) (Nat.le_of_ble_eq_true rfl))) dX20_depth_34 ⟨(show cells + k29 ≤ K by omega), (show slots + n30 ≤ N by omega)⟩) (fun r28 M H locs hw1 hZ => ?_) (fun q M H locs ci fs E T9 N9 hw hZ hc1 hM1 hb1 => False.elim hw)
      replace hw := hw1
      clear hw1
      have hk : cells + k29 + (k - k29) ≤ K := by omega
      have hn : slots + n30 + (n - n30) ≤ N := by omega
      generalize cells + k29 = cells at hk ⊢
      generalize slots + n30 = slots at hn ⊢
      clear hk1 hn1
      refine z_callI hZ (vx_runS (As := [.int x1, .int r28]) (rest := []) hC.fix (w_J0_max hlt hw) (va_cwS 2 hts (lw_S q1072 q232 q69 q233) rfl rfl rfl dd_J0_max ⟨(show 1 + 1 ≤ 4 + 2 * d by omega), (show 8 + (2 + 11) + (64) ≤ 129 + 46 * d by omega)⟩) (z_preS hC hZ) rfl rfl hl.1 rfl (lv_room (Nat.zero_le _)) dX20_depth_37 ⟨(show cells + 0 ≤ K by omega), (show slots + 0 ≤ N by omega)⟩) (fun r31 M H locs hw1 hZ => ?_) (fun q M H locs ci fs E T9 N9 hw hZ hc1 hM1 hb1 => False.elim hw)
      replace hw := hw1
      clear hw1
      refine W.cs (cells' := cells) (slots' := slots) rfl rfl ?_
      refine lv_istore_n (i := 1) (lv' := [(1, .int r31), (3, .ref b25), (2, .ref b18)]) hx hb dX20_depth_40 rfl hl (by decide) rfl (fun ls hl1 => ?_)
      replace hl := hl1
      clear hl1
      refine lv_goto (tgt := 10) hx hb dX20_depth_41 (by decide) ?_
      exact ih _ _ _ _ _ hk hn hZ (lv_sub hl [0, 2] rfl) hw
def wp_X20_depth (D : zD) (P : (Int32 → zM → Prop) → Nat → Nat → Nat → zM → Prop) (post : Int32 → zM → Prop) (k : Nat) (n : Nat) (o : Nat) (M : zM) : Prop :=
    (zgRm M o [(18, 0), (19, 0)] fun g35 => ((zd g35 fun b36 => (zis M b36 [26] ∧ (∃ k38 n39, k38 ≤ k ∧ n39 ≤ n ∧ wp_J3_iterator D (fun r37 M => (∃ f, wp_X20_depth_L10 D P post o f (k - k38) (n - n39) (0 : Int32) r37 M)) k38 n39 b36 M)))))
set_option maxHeartbeats 4000000 in
set_option maxRecDepth 100000 in
theorem w_X20_depth {l : Launch} {D : zD} {post : Int32 → zM → Prop} {P : (Int32 → zM → Prop) → Nat → Nat → Nat → zM → Prop} {d : Nat} (hlt : l.stackTraces = false) (hP : ∀ (post : Int32 → zM → Prop) (k n : Nat) (o : Nat) (M : zM), P post k n o M → zMet l D yX12_depth (ws_ yX12_depth cX12_depth 4 (some .int)) (rm_X12_depth d k n) k n [.ref o] M zI post (fun _ _ => False)) {k : Nat} {n : Nat} {o : Nat} {M : zM} (hw : wp_X20_depth D P post k n o M) : zMet l D yX20_depth (ws_ yX20_depth cX20_depth 4 (some .int)) (rm_X20_depth d k n) k n [.ref o] M zI post (fun _ _ => False) := by
  unfold wp_X20_depth at hw
  have hlv : lv_args 0 [.ref o] = [(0, .ref o)] := (zargs1 rfl rfl)
  refine z_ofW hlt (by decide) (Nat.le_trans (zsl1 rfl (Nat.le_refl 0 : (lg_sl []).length ≤ 0)) (Nat.le_of_ble_eq_true rfl)) hlv ?_
  intro p e s m args below meth c ls hG hZ hl
  have hC := hG.1
  have hx := hC.x
  have hb := hC.b
  have hown := hC.o
  have hts := hC.ts
  have hlt := hG.2.2.2.2.2
  obtain ⟨cells, hce⟩ : ∃ z : Nat, z = 0 := ⟨0, rfl⟩
  obtain ⟨slots, hsl⟩ : ∃ z : Nat, z = 0 := ⟨0, rfl⟩
  refine W.cs (cells' := cells) (slots' := slots) hce.symm hsl.symm ?_
  have hk : cells + k ≤ k := by omega
  have hn : slots + n ≤ n := by omega
  clear hce hsl
  refine lv_iconst (v := 0) hx hb dX20_depth_0 (by decide) ?_
  refine lv_istore_n (i := 1) (lv' := [(1, .int (0 : Int32)), (0, .ref o)]) hx hb dX20_depth_1 rfl hl (by decide) rfl (fun ls hl1 => ?_)
  replace hl := hl1
  clear hl1
  refine lv_aload_n hx hb dX20_depth_2 rfl (lv_at hl 1 rfl) ?_
  obtain ⟨q0, fs0, g40, hL0, hM0, hx0, hw⟩ := hw
  refine z_getm hC hZ hM0 (L := [(18, 0), (19, 0)]) (ref := "PluralBranches$Choice") (index := 14) (zal (⟨_, _, _, _, zc18, by decide, q821, (fun _ h9 => h9)⟩) (zal (⟨_, _, _, _, zc19, by decide, q821, (fun _ h9 => h9)⟩) (za0))) hL0 hx0 dX20_depth_3 ?_
  obtain ⟨b41, hr0, hw⟩ := hw
  subst hr0
  obtain ⟨⟨ci0, fs0, hci0, hM0⟩, hw⟩ := hw
  obtain ⟨k43, n44, hk1, hn1, hw⟩ := hw
  obtain rfl : ci0 = 26 := List.mem_singleton.mp hci0
  refine z_callR hZ (vx_runV (As := []) (rest := []) hC.fix (w_J3_iterator hlt hw) (cwV 0 hts (lw_V q1066 q1014 q1015 q74 q1016) rfl rfl rfl ⟨rfl, dd_J3_iterator⟩ ⟨(show 2 + 1 ≤ 4 + 2 * d by omega), (show 8 + (1 + 11) + (85) ≤ 129 + 46 * d by omega)⟩) (z_preV hC hZ hM0 zc26) rfl rfl hl.1 rfl (lv_room (Nat.zero_le _)) dX20_depth_6 ⟨(show cells + k43 ≤ k by omega), (show slots + n44 ≤ n by omega)⟩) (fun r42 M H locs hw1 hZ => ?_) (fun q M H locs ci fs E T9 N9 hw hZ hc1 hM1 hb1 => False.elim hw)
  replace hw := hw1
  clear hw1
  have hk : cells + k43 + (k - k43) ≤ k := by omega
  have hn : slots + n44 + (n - n44) ≤ n := by omega
  generalize cells + k43 = cells at hk ⊢
  generalize slots + n44 = slots at hn ⊢
  clear hk1 hn1
  refine z_astore_n (i := 2) (lv' := [(2, va_rf r42), (1, .int (0 : Int32)), (0, .ref o)]) hC dX20_depth_9 rfl hl (by decide) rfl (fun ls hl1 => ?_)
  replace hl := hl1
  clear hl1
  obtain ⟨f1, hw⟩ := hw
  exact wk_X20_depth_L10 hG hP f1 _ _ _ _ _ hk hn hZ (lv_sub hl [1, 0] rfl) hw
def wp_X12_depth_L34 (D : zD) (P : (Int32 → zM → Prop) → Nat → Nat → Nat → zM → Prop) (post : Int32 → zM → Prop) (o : Nat) (k10 : Nat → Nat → Int32 → Option Nat → zM → Prop) (k : Nat) (n : Nat) (x2 : Option Nat) (y0 : Int32) (y1 : Int32) (M : zM) : Prop :=
    (wp_J0_max D (fun r1 M => k10 k n r1 x2 M) y0 y1 M)
set_option maxHeartbeats 4000000 in
set_option maxRecDepth 100000 in
theorem wk_X12_depth_L34 {p : Program} {l : Launch} {e : Env} {s : State} {m : MethodId} {args : Array Value} {below : List Frame} {meth : Method} {c : Code} {D : zD} {P : (Int32 → zM → Prop) → Nat → Nat → Nat → zM → Prop} {post : Int32 → zM → Prop} {K N : Nat} {d : Nat} {o : Nat} (hG : zGx p l s m args meth c cX12_depth 4 "PluralBranches$Parts" D (some .int) "depth" []) (hP : ∀ (post : Int32 → zM → Prop) (k n : Nat) (o : Nat) (M : zM), P post k n o M → zMet l D yX12_depth (ws_ yX12_depth cX12_depth 4 (some .int)) (rm_X12_depth d k n) k n [.ref o] M zI post (fun _ _ => False)) (k10 : Nat → Nat → Int32 → Option Nat → zM → Prop) (hk10 : ∀ {H : Heap} {locs : List Loc} {cells slots : Nat} {ls : Array Slot} (k : Nat) (n : Nat) (x1 : Int32) (x2 : Option Nat) (M : zM), cells + k ≤ K → slots + n ≤ N → zS D M H locs → lv_has ls 4 [(1, .int x1), (2, va_rf x2)] → k10 k n x1 x2 M → W p l e (rm_X12_depth (d + 1) K N) s m args below meth c H locs cells slots (vx_MQ below (zQ D zI post) (zX D (fun _ _ => False)) args s K N (zA D)) (F0 m 10 ls [])) : ∀ {H : Heap} {locs : List Loc} {cells slots : Nat} {ls : Array Slot} (k : Nat) (n : Nat) (x2 : Option Nat) (y0 : Int32) (y1 : Int32) (M : zM), cells + k ≤ K → slots + n ≤ N → zS D M H locs → lv_has ls 4 [(2, va_rf x2)] → wp_X12_depth_L34 D P post o k10 k n x2 y0 y1 M → W p l e (rm_X12_depth (d + 1) K N) s m args below meth c H locs cells slots (vx_MQ below (zQ D zI post) (zX D (fun _ _ => False)) args s K N (zA D)) (F0 m 34 ls [.int y1, .int y0]) := by
  have hC := hG.1
  have hx := hC.x
  have hb := hC.b
  have hown := hC.o
  have hts := hC.ts
  have hlt := hG.2.2.2.2.2
  intro H locs cells slots ls k n x2 y0 y1 M hk hn hZ hl hw
  refine z_callI hZ (vx_runS (As := [.int y0, .int y1]) (rest := []) hC.fix (w_J0_max hlt hw) (va_cwS 2 hts (lw_S q1080 q232 q69 q233) rfl rfl rfl dd_J0_max ⟨(show 1 + 1 ≤ 3 + 2 * (d + 1) by omega), (show 8 + (2 + 11) + (64) ≤ 106 + 46 * (d + 1) by omega)⟩) (z_preS hC hZ) rfl rfl hl.1 rfl (lv_room (Nat.zero_le _)) dX12_depth_34 ⟨(show cells + 0 ≤ K by omega), (show slots + 0 ≤ N by omega)⟩) (fun r4 M H locs hw1 hZ => ?_) (fun q M H locs ci fs E T9 N9 hw hZ hc1 hM1 hb1 => False.elim hw)
  replace hw := hw1
  clear hw1
  refine W.cs (cells' := cells) (slots' := slots) rfl rfl ?_
  refine lv_istore_n (i := 1) (lv' := [(1, .int r4), (2, va_rf x2)]) hx hb dX12_depth_37 rfl hl (by decide) rfl (fun ls hl1 => ?_)
  replace hl := hl1
  clear hl1
  refine lv_goto (tgt := 10) hx hb dX12_depth_38 (by decide) ?_
  exact hk10 _ _ _ _ _ hk hn hZ (lv_sub hl [0, 1] rfl) hw
def wp_X12_depth_L10 (D : zD) (P : (Int32 → zM → Prop) → Nat → Nat → Nat → zM → Prop) (post : Int32 → zM → Prop) (o : Nat) : Nat → Nat → Nat → Int32 → Option Nat → zM → Prop
  | 0 => fun _ _ _ _ _ => False
  | f + 1 => fun k n x1 x2 M =>
    ((zd x2 fun b7 => (zis M b7 [27] ∧ wp_J15_hasNext D (fun r8 M => ((r8 = 0 → post x1 M) ∧ (¬ r8 = 0 → ((zis M b7 [27] ∧ wp_J15_next D (fun r11 M => ((∀ w, r11 = some w → zis M w [12, 14, 15, 16, 18, 19, 21]) ∧ ((zd r11 fun b14 => ((zis M b14 [12, 14, 15, 16, 21] ∧ wp_X13_depth D (fun r15 M => wp_X12_depth_L34 D P post o (wp_X12_depth_L10 D P post o f) k n (some b7) x1 r15 M) b14 M) ∨ (zis M b14 [18, 19] ∧ (∃ k19 n20, k19 ≤ k ∧ n20 ≤ n ∧ wp_X20_depth D P (fun r18 M => wp_X12_depth_L34 D P post o (wp_X12_depth_L10 D P post o f) (k - k19) (n - n20) (some b7) x1 r18 M) k19 n20 b14 M))))))) b7 M))))) b7 M)))
set_option maxHeartbeats 4000000 in
set_option maxRecDepth 100000 in
theorem wk_X12_depth_L10 {p : Program} {l : Launch} {e : Env} {s : State} {m : MethodId} {args : Array Value} {below : List Frame} {meth : Method} {c : Code} {D : zD} {P : (Int32 → zM → Prop) → Nat → Nat → Nat → zM → Prop} {post : Int32 → zM → Prop} {K N : Nat} {d : Nat} {o : Nat} (hG : zGx p l s m args meth c cX12_depth 4 "PluralBranches$Parts" D (some .int) "depth" []) (hP : ∀ (post : Int32 → zM → Prop) (k n : Nat) (o : Nat) (M : zM), P post k n o M → zMet l D yX12_depth (ws_ yX12_depth cX12_depth 4 (some .int)) (rm_X12_depth d k n) k n [.ref o] M zI post (fun _ _ => False)) : ∀ (f : Nat), ∀ {H : Heap} {locs : List Loc} {cells slots : Nat} {ls : Array Slot} (k : Nat) (n : Nat) (x1 : Int32) (x2 : Option Nat) (M : zM), cells + k ≤ K → slots + n ≤ N → zS D M H locs → lv_has ls 4 [(1, .int x1), (2, va_rf x2)] → wp_X12_depth_L10 D P post o f k n x1 x2 M → W p l e (rm_X12_depth (d + 1) K N) s m args below meth c H locs cells slots (vx_MQ below (zQ D zI post) (zX D (fun _ _ => False)) args s K N (zA D)) (F0 m 10 ls []) := by
  have hC := hG.1
  have hx := hC.x
  have hb := hC.b
  have hown := hC.o
  have hts := hC.ts
  have hlt := hG.2.2.2.2.2
  intro f
  induction f with
  | zero =>
    intro H locs cells slots ls k n x1 x2 M hk hn hZ hl hw
    exact absurd hw (fun h => h)
  | succ f ih =>
    intro H locs cells slots ls k n x1 x2 M hk hn hZ hl hw
    refine z_aload_n hC dX12_depth_10 rfl (lv_at hl 1 rfl) ?_
    obtain ⟨b22, hr0, hw⟩ := hw
    subst hr0
    obtain ⟨⟨ci0, fs0, hci0, hM0⟩, hw⟩ := hw
    obtain ⟨C0, T0, N0, ty0, hc0, hsel0, hf0⟩ : ∃ (C0 : String) (T0 : u_T) (N0 : Nat) (ty0 : Nat → FieldType), zCls ci0 C0 T0 N0 ty0 ∧ Cond.selects C0 ⟨"java/util/Iterator", "hasNext", "()Z"⟩ yJ15_hasNext ∈ lw_all ∧ (C0, ⟨"java/util/Iterator", "hasNext", "()Z"⟩, yJ15_hasNext) ∈ zFs := (zal ⟨_, _, _, _, zc27, q1041, List.mem_of_getElem? (i := 0) rfl⟩ (za0) : ∀ ci ∈ [27], ∃ (C0 : String) (T0 : u_T) (N0 : Nat) (ty0 : Nat → FieldType), zCls ci C0 T0 N0 ty0 ∧ Cond.selects C0 ⟨"java/util/Iterator", "hasNext", "()Z"⟩ yJ15_hasNext ∈ lw_all ∧ (C0, ⟨"java/util/Iterator", "hasNext", "()Z"⟩, yJ15_hasNext) ∈ zFs) ci0 hci0
    refine z_callI5 hZ (vx_runF (As := []) (rest := []) (hC.vK.1 _ _ hc0.1).2 hC.fix (w_J15_hasNext hlt hw) (va_cwF 0 hts (lw_app (zal q1037 (zal hsel0 (zal q1043 (zal q108 za0)))) (lw_meth q1045)) rfl rfl rfl (hC.K.2.2.2.1 _ hf0) (by decide +kernel) ⟨(show 1 + 1 ≤ 3 + 2 * (d + 1) by omega), (show 8 + (1 + 11) + (64) ≤ 106 + 46 * (d + 1) by omega)⟩) (z_preV hC hZ hM0 hc0) rfl rfl hl.1 rfl (lv_room (Nat.zero_le _)) dX12_depth_11 ⟨(show cells + 0 ≤ K by omega), (show slots + 0 ≤ N by omega)⟩) (fun r23 M H locs hw1 hZ => ?_) (fun q M H locs ci fs E T9 N9 hw hZ hc1 hM1 hb1 => False.elim hw)
    replace hw := hw1
    clear hw1
    refine W.cs (cells' := cells) (slots' := slots) rfl rfl ?_
    refine lv_if_eq (tgt := 41) hx hb dX12_depth_16 (by decide) (fun c36 => ?_) (fun c36 => ?_)
    · replace hw := hw.1 c36
      refine lv_iload_n hx hb dX12_depth_41 rfl (lv_at hl 0 rfl) ?_
      exact z_iret hG hZ (by omega) (by omega) hw dX12_depth_42
    · replace hw := hw.2 c36
      refine lv_aload_n hx hb dX12_depth_19 rfl (lv_at hl 1 rfl) ?_
      obtain ⟨⟨ci0, fs0, hci0, hM0⟩, hw⟩ := hw
      obtain ⟨C0, T0, N0, ty0, hc0, hsel0, hf0⟩ : ∃ (C0 : String) (T0 : u_T) (N0 : Nat) (ty0 : Nat → FieldType), zCls ci0 C0 T0 N0 ty0 ∧ Cond.selects C0 ⟨"java/util/Iterator", "next", "()Ljava/lang/Object;"⟩ yJ15_next ∈ lw_all ∧ (C0, ⟨"java/util/Iterator", "next", "()Ljava/lang/Object;"⟩, yJ15_next) ∈ zFs := (zal ⟨_, _, _, _, zc27, q1050, List.mem_of_getElem? (i := 1) rfl⟩ (za0) : ∀ ci ∈ [27], ∃ (C0 : String) (T0 : u_T) (N0 : Nat) (ty0 : Nat → FieldType), zCls ci C0 T0 N0 ty0 ∧ Cond.selects C0 ⟨"java/util/Iterator", "next", "()Ljava/lang/Object;"⟩ yJ15_next ∈ lw_all ∧ (C0, ⟨"java/util/Iterator", "next", "()Ljava/lang/Object;"⟩, yJ15_next) ∈ zFs) ci0 hci0
      refine z_callR5 hZ (vx_runF (As := []) (rest := []) (hC.vK.1 _ _ hc0.1).2 hC.fix (w_J15_next hlt hw) (va_cwF 0 hts (lw_app (zal q1047 (zal hsel0 (zal q1052 (zal q108 za0)))) (lw_meth q1054)) rfl rfl rfl (hC.K.2.2.2.1 _ hf0) (by decide +kernel) ⟨(show 2 + 1 ≤ 3 + 2 * (d + 1) by omega), (show 8 + (3 + 11) + (84) ≤ 106 + 46 * (d + 1) by omega)⟩) (z_preV hC hZ hM0 hc0) rfl rfl hl.1 rfl (lv_room (Nat.zero_le _)) dX12_depth_20 ⟨(show cells + 0 ≤ K by omega), (show slots + 0 ≤ N by omega)⟩) (fun r26 M H locs hw1 hZ => ?_) (fun q M H locs ci fs E T9 N9 hw hZ hc1 hM1 hb1 => False.elim hw)
      replace hw := hw1
      clear hw1
      refine W.cs (cells' := cells) (slots' := slots) rfl rfl ?_
      obtain ⟨hc0, hw⟩ := hw
      refine z_castO (r := r26) hC hZ hc0 (zal ⟨_, _, _, _, zc12, (Or.inr q2268)⟩ (zal ⟨_, _, _, _, zc14, (Or.inr q2270)⟩ (zal ⟨_, _, _, _, zc15, (Or.inr q2269)⟩ (zal ⟨_, _, _, _, zc16, (Or.inr q2272)⟩ (zal ⟨_, _, _, _, zc18, (Or.inr q2271)⟩ (zal ⟨_, _, _, _, zc19, (Or.inr q2267)⟩ (zal ⟨_, _, _, _, zc21, (Or.inr q2273)⟩ (za0)))))))) q1059 dX12_depth_25 ?_
      refine z_astore_n (i := 3) (lv' := [(3, va_rf r26), (1, .int x1), (2, .ref b22)]) hC dX12_depth_28 rfl hl (by decide) rfl (fun ls hl1 => ?_)
      replace hl := hl1
      clear hl1
      refine lv_iload_n hx hb dX12_depth_29 rfl (lv_at hl 1 rfl) ?_
      refine z_aload_n hC dX12_depth_30 rfl (lv_at hl 0 rfl) ?_
      obtain ⟨b29, hr0, hw⟩ := hw
      subst hr0
      rcases hw with hw | hw
      · obtain ⟨⟨ci0, fs0, hci0, hM0⟩, hw⟩ := hw
        obtain ⟨C0, T0, N0, ty0, hc0, hsel0⟩ : ∃ (C0 : String) (T0 : u_T) (N0 : Nat) (ty0 : Nat → FieldType), zCls ci0 C0 T0 N0 ty0 ∧ Cond.selects C0 ⟨"PluralBranches$Part", "depth", "()I"⟩ yX13_depth ∈ lw_all := (zal ⟨_, _, _, _, zc12, q1073⟩ (zal ⟨_, _, _, _, zc14, q1075⟩ (zal ⟨_, _, _, _, zc15, q1074⟩ (zal ⟨_, _, _, _, zc16, q1077⟩ (zal ⟨_, _, _, _, zc21, q1078⟩ (za0))))) : ∀ ci ∈ [12, 14, 15, 16, 21], ∃ (C0 : String) (T0 : u_T) (N0 : Nat) (ty0 : Nat → FieldType), zCls ci C0 T0 N0 ty0 ∧ Cond.selects C0 ⟨"PluralBranches$Part", "depth", "()I"⟩ yX13_depth ∈ lw_all) ci0 hci0
        refine z_callI hZ (vx_runU (As := []) (rest := [.int x1]) hC.fix (w_X13_depth hlt hw) (va_cwU (owner := "PluralBranches$Part") (x := ⟨"PluralBranches$Part", "depth", "()I"⟩) 0 hts (lw_app (zal q1060 (zal q1062 (zal hsel0 (zal q1061 (zal q89 za0))))) (lw_meth q1079)) rfl rfl rfl rfl (by decide +kernel) ⟨(show 1 + 1 ≤ 3 + 2 * (d + 1) by omega), (show 8 + (1 + 11) + (64) ≤ 106 + 46 * (d + 1) by omega)⟩) (z_preV hC hZ hM0 hc0) rfl rfl hl.1 rfl (lv_room (Nat.le_trans (zrm1 rfl zrm0) (Nat.le_of_ble_eq_true rfl))) dX12_depth_31 ⟨(show cells + 0 ≤ K by omega), (show slots + 0 ≤ N by omega)⟩) (fun r30 M H locs hw1 hZ => ?_) (fun q M H locs ci fs E T9 N9 hw hZ hc1 hM1 hb1 => False.elim hw)
        replace hw := hw1
        clear hw1
        refine W.cs (cells' := cells) (slots' := slots) rfl rfl ?_
        exact wk_X12_depth_L34 hG hP _ (fun {_ _ _ _ _} _z0 _z1 _z2 _z3 _z4 h1 h2 h3 h4 h5 => ih _z0 _z1 _z2 _z3 _z4 h1 h2 h3 h4 h5) _ _ _ _ _ _ hk hn hZ (lv_sub hl [2] rfl) hw
      · obtain ⟨⟨ci0, fs0, hci0, hM0⟩, hw⟩ := hw
        obtain ⟨k34, n35, hk1, hn1, hw⟩ := hw
        obtain ⟨C0, T0, N0, ty0, hc0, hsel0⟩ : ∃ (C0 : String) (T0 : u_T) (N0 : Nat) (ty0 : Nat → FieldType), zCls ci0 C0 T0 N0 ty0 ∧ Cond.selects C0 ⟨"PluralBranches$Part", "depth", "()I"⟩ yX20_depth ∈ lw_all := (zal ⟨_, _, _, _, zc18, q1076⟩ (zal ⟨_, _, _, _, zc19, q1063⟩ (za0)) : ∀ ci ∈ [18, 19], ∃ (C0 : String) (T0 : u_T) (N0 : Nat) (ty0 : Nat → FieldType), zCls ci C0 T0 N0 ty0 ∧ Cond.selects C0 ⟨"PluralBranches$Part", "depth", "()I"⟩ yX20_depth ∈ lw_all) ci0 hci0
        refine z_callI hZ (vx_runU (As := []) (rest := [.int x1]) hC.fix (w_X20_depth hlt hP hw) (va_cwO (owner := "PluralBranches$Part") (x := ⟨"PluralBranches$Part", "depth", "()I"⟩) 0 hts (lw_app (zal q1060 (zal q1062 (zal q1061 (zal hsel0 (zal q1064 (zal q99 za0)))))) (lw_meth q1065)) rfl rfl rfl q1079 (by decide +kernel) ⟨(show 4 + 2 * d + 1 ≤ 3 + 2 * (d + 1) by omega), (show 8 + (4 + 11) + (129 + 46 * d) ≤ 106 + 46 * (d + 1) by omega)⟩) (z_preV hC hZ hM0 hc0) rfl rfl hl.1 rfl (lv_room (Nat.le_trans (zrm1 rfl zrm0) (Nat.le_of_ble_eq_true rfl))) dX12_depth_31 ⟨(show cells + k34 ≤ K by omega), (show slots + n35 ≤ N by omega)⟩) (fun r33 M H locs hw1 hZ => ?_) (fun q M H locs ci fs E T9 N9 hw hZ hc1 hM1 hb1 => False.elim hw)
        replace hw := hw1
        clear hw1
        have hk : cells + k34 + (k - k34) ≤ K := by omega
        have hn : slots + n35 + (n - n35) ≤ N := by omega
        generalize cells + k34 = cells at hk ⊢
        generalize slots + n35 = slots at hn ⊢
        clear hk1 hn1
        exact wk_X12_depth_L34 hG hP _ (fun {_ _ _ _ _} _z0 _z1 _z2 _z3 _z4 h1 h2 h3 h4 h5 => ih _z0 _z1 _z2 _z3 _z4 h1 h2 h3 h4 h5) _ _ _ _ _ _ hk hn hZ (lv_sub hl [2] rfl) hw
def wp_X12_depth (D : zD) : Nat → (Int32 → zM → Prop) → Nat → Nat → Nat → zM → Prop
  | 0 => fun _ _ _ _ _ => False
  | d + 1 => fun post k n o M =>
    (fun P => (zgR M o 11 0 fun g37 => ((zd g37 fun b38 => (zis M b38 [26] ∧ (∃ k40 n41, k40 ≤ k ∧ n41 ≤ n ∧ wp_J3_iterator D (fun r39 M => (∃ f, wp_X12_depth_L10 D P post o f (k - k40) (n - n41) (0 : Int32) r39 M)) k40 n41 b38 M)))))) (wp_X12_depth D d)
set_option maxHeartbeats 4000000 in
set_option maxRecDepth 100000 in
theorem w_X12_depth {l : Launch} {D : zD} (hlt : l.stackTraces = false) : ∀ (d : Nat) (post : Int32 → zM → Prop) (k : Nat) (n : Nat) (o : Nat) (M : zM), wp_X12_depth D d post k n o M → zMet l D yX12_depth (ws_ yX12_depth cX12_depth 4 (some .int)) (rm_X12_depth d k n) k n [.ref o] M zI post (fun _ _ => False) := by
  intro d
  induction d with
  | zero =>
    intro post k n o M hw
    exact absurd hw (fun h => h)
  | succ d ih =>
    intro post k n o M hw
    have hP := ih
    replace hw : (fun (P : (Int32 → zM → Prop) → Nat → Nat → Nat → zM → Prop) => (zgR M o 11 0 fun g37 => ((zd g37 fun b38 => (zis M b38 [26] ∧ (∃ k40 n41, k40 ≤ k ∧ n41 ≤ n ∧ wp_J3_iterator D (fun r39 M => (∃ f, wp_X12_depth_L10 D P post o f (k - k40) (n - n41) (0 : Int32) r39 M)) k40 n41 b38 M)))))) (wp_X12_depth D d) := hw
    generalize wp_X12_depth D d = P at hw hP
    replace hw : (zgR M o 11 0 fun g37 => ((zd g37 fun b38 => (zis M b38 [26] ∧ (∃ k40 n41, k40 ≤ k ∧ n41 ≤ n ∧ wp_J3_iterator D (fun r39 M => (∃ f, wp_X12_depth_L10 D P post o f (k - k40) (n - n41) (0 : Int32) r39 M)) k40 n41 b38 M))))) := hw
    have hlv : lv_args 0 [.ref o] = [(0, .ref o)] := (zargs1 rfl rfl)
    refine z_ofW hlt (by decide) (Nat.le_trans (zsl1 rfl (Nat.le_refl 0 : (lg_sl []).length ≤ 0)) (Nat.le_of_ble_eq_true rfl)) hlv ?_
    intro p e s m args below meth c ls hG hZ hl
    have hC := hG.1
    have hx := hC.x
    have hb := hC.b
    have hown := hC.o
    have hts := hC.ts
    have hlt := hG.2.2.2.2.2
    obtain ⟨cells, hce⟩ : ∃ z : Nat, z = 0 := ⟨0, rfl⟩
    obtain ⟨slots, hsl⟩ : ∃ z : Nat, z = 0 := ⟨0, rfl⟩
    refine W.cs (cells' := cells) (slots' := slots) hce.symm hsl.symm ?_
    have hk : cells + k ≤ k := by omega
    have hn : slots + n ≤ n := by omega
    clear hce hsl
    refine lv_iconst (v := 0) hx hb dX12_depth_0 (by decide) ?_
    refine lv_istore_n (i := 1) (lv' := [(1, .int (0 : Int32)), (0, .ref o)]) hx hb dX12_depth_1 rfl hl (by decide) rfl (fun ls hl1 => ?_)
    replace hl := hl1
    clear hl1
    refine lv_aload_n hx hb dX12_depth_2 rfl (lv_at hl 1 rfl) ?_
    obtain ⟨fs0, g42, hM0, hx0, hw⟩ := hw
    refine z_get hC hZ hM0 zc11 0 (by decide) q604 (fun _ h9 => h9) hx0 dX12_depth_3 ?_
    obtain ⟨b43, hr0, hw⟩ := hw
    subst hr0
    obtain ⟨⟨ci0, fs0, hci0, hM0⟩, hw⟩ := hw
    obtain ⟨k45, n46, hk1, hn1, hw⟩ := hw
    obtain rfl : ci0 = 26 := List.mem_singleton.mp hci0
    refine z_callR hZ (vx_runV (As := []) (rest := []) hC.fix (w_J3_iterator hlt hw) (cwV 0 hts (lw_V q1013 q1014 q1015 q74 q1016) rfl rfl rfl ⟨rfl, dd_J3_iterator⟩ ⟨(show 2 + 1 ≤ 3 + 2 * (d + 1) by omega), (show 8 + (1 + 11) + (85) ≤ 106 + 46 * (d + 1) by omega)⟩) (z_preV hC hZ hM0 zc26) rfl rfl hl.1 rfl (lv_room (Nat.zero_le _)) dX12_depth_6 ⟨(show cells + k45 ≤ k by omega), (show slots + n46 ≤ n by omega)⟩) (fun r44 M H locs hw1 hZ => ?_) (fun q M H locs ci fs E T9 N9 hw hZ hc1 hM1 hb1 => False.elim hw)
    replace hw := hw1
    clear hw1
    have hk : cells + k45 + (k - k45) ≤ k := by omega
    have hn : slots + n46 + (n - n46) ≤ n := by omega
    generalize cells + k45 = cells at hk ⊢
    generalize slots + n46 = slots at hn ⊢
    clear hk1 hn1
    refine z_astore_n (i := 2) (lv' := [(2, va_rf r44), (1, .int (0 : Int32)), (0, .ref o)]) hC dX12_depth_9 rfl hl (by decide) rfl (fun ls hl1 => ?_)
    replace hl := hl1
    clear hl1
    obtain ⟨f1, hw⟩ := hw
    exact wk_X12_depth_L10 hG hP f1 _ _ _ _ _ hk hn hZ (lv_sub hl [1, 0] rfl) hw
abbrev rm_X0_told (K N : Nat) : Room := { frames := 16, cells := K, slots := N, locals := 405 }
def wp_X0_told_L19 (D : zD) (post : Int32 → zM → Prop) (o : Nat) (k : Nat) (n : Nat) (M : zM) : Prop :=
    post (-1 : Int32) M
set_option maxHeartbeats 4000000 in
set_option maxRecDepth 100000 in
theorem wk_X0_told_L19 {p : Program} {l : Launch} {e : Env} {s : State} {m : MethodId} {args : Array Value} {below : List Frame} {meth : Method} {c : Code} {D : zD} {post : Int32 → zM → Prop} {K N : Nat} {o : Nat} (hG : zGx p l s m args meth c cX0_told 4 "PluralBranches" D (some .int) "told" []) : ∀ {H : Heap} {locs : List Loc} {cells slots : Nat} {ls : Array Slot} (k : Nat) (n : Nat) (M : zM), cells + k ≤ K → slots + n ≤ N → zS D M H locs → lv_has ls 4 [] → wp_X0_told_L19 D post o k n M → W p l e (rm_X0_told K N) s m args below meth c H locs cells slots (vx_MQ below (zQ D zI post) (zX D (fun _ _ => False)) args s K N (zA D)) (F0 m 19 ls []) := by
  have hC := hG.1
  have hx := hC.x
  have hb := hC.b
  have hown := hC.o
  have hts := hC.ts
  have hlt := hG.2.2.2.2.2
  intro H locs cells slots ls k n M hk hn hZ hl hw
  refine lv_iconst (v := (-1)) hx hb dX0_told_19 (by decide) ?_
  exact z_iret hG hZ (by omega) (by omega) hw dX0_told_20
def wp_X0_told_L80 (D : zD) (post : Int32 → zM → Prop) (o : Nat) (k : Nat) (n : Nat) (y0 : Int32) (M : zM) : Prop :=
    post y0 M
set_option maxHeartbeats 4000000 in
set_option maxRecDepth 100000 in
theorem wk_X0_told_L80 {p : Program} {l : Launch} {e : Env} {s : State} {m : MethodId} {args : Array Value} {below : List Frame} {meth : Method} {c : Code} {D : zD} {post : Int32 → zM → Prop} {K N : Nat} {o : Nat} (hG : zGx p l s m args meth c cX0_told 4 "PluralBranches" D (some .int) "told" []) : ∀ {H : Heap} {locs : List Loc} {cells slots : Nat} {ls : Array Slot} (k : Nat) (n : Nat) (y0 : Int32) (M : zM), cells + k ≤ K → slots + n ≤ N → zS D M H locs → lv_has ls 4 [] → wp_X0_told_L80 D post o k n y0 M → W p l e (rm_X0_told K N) s m args below meth c H locs cells slots (vx_MQ below (zQ D zI post) (zX D (fun _ _ => False)) args s K N (zA D)) (F0 m 80 ls [.int y0]) := by
  have hC := hG.1
  have hx := hC.x
  have hb := hC.b
  have hown := hC.o
  have hts := hC.ts
  have hlt := hG.2.2.2.2.2
  intro H locs cells slots ls k n y0 M hk hn hZ hl hw
  exact z_iret hG hZ (by omega) (by omega) hw dX0_told_80
def wp_X0_told (D : zD) (post : Int32 → zM → Prop) (k : Nat) (n : Nat) (o : Nat) (a0 : Int32) (a1 : Int32) (M : zM) : Prop :=
    (wp_X0_isSlot D (fun r1 M => ((r1 = 0 → wp_X0_told_L19 D post o k n M) ∧ (¬ r1 = 0 → (wp_X0_in D (fun r4 M => ((¬ r4 = 0 → (zgR M o 0 5 fun g7 => ((zd g7 fun b8 => zaR M b8 8 a0 fun v9 => ((∀ b10 : Nat, v9 = some b10 → ((¬ a1 = 0 → ((¬ a1 = (1 : Int32) → ((¬ a1 = (2 : Int32) → (zgI M b10 10 4 fun g11 => wp_X0_told_L80 D post o k n g11 M)) ∧ (a1 = (2 : Int32) → (zgR M b10 10 0 fun g12 => ((zd g12 fun b13 => (zis M b13 [11] ∧ (∃ k15 n16, k15 ≤ k ∧ n16 ≤ n ∧ wp_X12_depth D 6 (fun r14 M => wp_X0_told_L80 D post o (k - k15) (n - n16) r14 M) k15 n16 b13 M)))))))) ∧ (a1 = (1 : Int32) → (zgR M b10 10 2 fun g18 => ((zd g18 fun b19 => (zis M b19 [26] ∧ wp_J3_size D (fun r20 M => wp_X0_told_L80 D post o k n r20 M) b19 M))))))) ∧ (a1 = 0 → (zgI M b10 10 1 fun g24 => wp_X0_told_L80 D post o k n g24 M)))) ∧ (v9 = none → post (-2 : Int32) M)))))) ∧ (r4 = 0 → wp_X0_told_L19 D post o k n M))) (a1.toInt64) (0 : Int64) (3 : Int64) M)))) a0 M)
set_option maxHeartbeats 4000000 in
set_option maxRecDepth 100000 in
theorem w_X0_told {l : Launch} {D : zD} {post : Int32 → zM → Prop} (hlt : l.stackTraces = false) {k : Nat} {n : Nat} {o : Nat} {a0 : Int32} {a1 : Int32} {M : zM} (hw : wp_X0_told D post k n o a0 a1 M) : zMet l D yX0_told (ws_ yX0_told cX0_told 4 (some .int)) (rm_X0_told k n) k n [.ref o, .int a0, .int a1] M zI post (fun _ _ => False) := by
  unfold wp_X0_told at hw
  have hlv : lv_args 0 [.ref o, .int a0, .int a1] = [(0, .ref o), (1, .int a0), (2, .int a1)] := (zargs1 rfl (zargs1 rfl (zargs1 rfl rfl)))
  refine z_ofW hlt (by decide) (Nat.le_trans (zsl1 rfl (zsl1 rfl (zsl1 rfl (Nat.le_refl 0 : (lg_sl []).length ≤ 0)))) (Nat.le_of_ble_eq_true rfl)) hlv ?_
  intro p e s m args below meth c ls hG hZ hl
  have hC := hG.1
  have hx := hC.x
  have hb := hC.b
  have hown := hC.o
  have hts := hC.ts
  have hlt := hG.2.2.2.2.2
  obtain ⟨cells, hce⟩ : ∃ z : Nat, z = 0 := ⟨0, rfl⟩
  obtain ⟨slots, hsl⟩ : ∃ z : Nat, z = 0 := ⟨0, rfl⟩
  refine W.cs (cells' := cells) (slots' := slots) hce.symm hsl.symm ?_
  have hk : cells + k ≤ k := by omega
  have hn : slots + n ≤ n := by omega
  clear hce hsl
  refine lv_iload_n hx hb dX0_told_0 rfl (lv_at hl 1 rfl) ?_
  refine z_callI hZ (vx_runS (As := [.int a0]) (rest := []) hC.fix (w_X0_isSlot hlt hw) (va_cwS 1 hts (lw_S q528 q529 q67 q530) rfl rfl rfl dd_X0_isSlot ⟨Nat.le_of_ble_eq_true rfl, Nat.le_of_ble_eq_true rfl⟩) (z_preS hC hZ) rfl rfl hl.1 rfl (lv_room (Nat.zero_le _)) dX0_told_1 ⟨(show cells + 0 ≤ k by omega), (show slots + 0 ≤ n by omega)⟩) (fun r28 M H locs hw1 hZ => ?_) (fun q M H locs ci fs E T9 N9 hw hZ hc1 hM1 hb1 => False.elim hw)
  replace hw := hw1
  clear hw1
  refine W.cs (cells' := cells) (slots' := slots) rfl rfl ?_
  refine lv_if_eq (tgt := 19) hx hb dX0_told_4 (by decide) (fun c54 => ?_) (fun c54 => ?_)
  · replace hw := hw.1 c54
    exact wk_X0_told_L19 hG _ _ _ hk hn hZ (lv_sub hl [] rfl) hw
  · replace hw := hw.2 c54
    refine lv_iload_n hx hb dX0_told_7 rfl (lv_at hl 2 rfl) ?_
    refine lv_i2l hx hb dX0_told_8 rfl ?_
    refine lv_lconst (v := 0) hx hb dX0_told_9 (by decide) ?_
    refine lv_ldc2 hx hb hown (hts _ q531) dX0_told_10 ?_
    refine z_callI hZ (vx_runS (As := [.long (a1.toInt64), .long (0 : Int64), .long (3 : Int64)]) (rest := []) hC.fix (w_X0_in hlt hw) (va_cwS 3 hts (lw_S q434 q435 q67 q436) rfl rfl rfl dd_X0_in ⟨Nat.le_of_ble_eq_true rfl, Nat.le_of_ble_eq_true rfl⟩) (z_preS hC hZ) rfl rfl hl.1 rfl (lv_room (Nat.zero_le _)) dX0_told_13 ⟨(show cells + 0 ≤ k by omega), (show slots + 0 ≤ n by omega)⟩) (fun r31 M H locs hw1 hZ => ?_) (fun q M H locs ci fs E T9 N9 hw hZ hc1 hM1 hb1 => False.elim hw)
    replace hw := hw1
    clear hw1
    refine W.cs (cells' := cells) (slots' := slots) rfl rfl ?_
    refine lv_if_ne (tgt := 21) hx hb dX0_told_16 (by decide) (fun c53 => ?_) (fun c53 => ?_)
    · replace hw := hw.1 c53
      refine lv_aload_n hx hb dX0_told_21 rfl (lv_at hl 0 rfl) ?_
      obtain ⟨fs0, g34, hM0, hx0, hw⟩ := hw
      refine z_get hC hZ hM0 zc0 5 (by decide) q406 (fun _ h9 => h9) hx0 dX0_told_22 ?_
      refine lv_iload_n hx hb dX0_told_25 rfl (lv_at hl 1 rfl) ?_
      obtain ⟨b35, hr0, hw⟩ := hw
      subst hr0
      obtain ⟨n0, f0, v36, hM0, hi0, hr0, hw⟩ := hw
      refine z_aald hC hZ hM0 (by decide) rfl hi0 hr0 dX0_told_26 ?_
      refine z_astore_n (i := 3) (lv' := [(3, va_rf v36), (0, .ref o), (1, .int a0), (2, .int a1)]) hC dX0_told_27 rfl hl (by decide) rfl (fun ls hl1 => ?_)
      replace hl := hl1
      clear hl1
      refine z_aload_n hC dX0_told_28 rfl (lv_at hl 0 rfl) ?_
      refine z_ifnonnull (tgt := 35) hC dX0_told_29 (by decide) (fun b37 hr0 => ?_) (fun hr0 => ?_)
      · replace hw := hw.1 b37 hr0
        subst hr0
        refine lv_iload_n hx hb dX0_told_35 rfl (lv_at hl 3 rfl) ?_
        refine lv_if_ne (tgt := 46) hx hb dX0_told_36 (by decide) (fun c52 => ?_) (fun c52 => ?_)
        · replace hw := hw.1 c52
          refine lv_iload_n hx hb dX0_told_46 rfl (lv_at hl 3 rfl) ?_
          refine lv_iconst (v := 1) hx hb dX0_told_47 (by decide) ?_
          refine lv_icmp_ne (tgt := 61) hx hb dX0_told_48 (by decide) (fun c50 => ?_) (fun c50 => ?_)
          · replace hw := hw.1 c50
            refine lv_iload_n hx hb dX0_told_61 rfl (lv_at hl 3 rfl) ?_
            refine lv_iconst (v := 2) hx hb dX0_told_62 (by decide) ?_
            refine lv_icmp_ne (tgt := 76) hx hb dX0_told_63 (by decide) (fun c44 => ?_) (fun c44 => ?_)
            · replace hw := hw.1 c44
              refine lv_aload_n hx hb dX0_told_76 rfl (lv_at hl 0 rfl) ?_
              obtain ⟨fs0, g38, hM0, hx0, hw⟩ := hw
              refine z_getN hC hZ hM0 zc10 4 (by decide) q557 (fun _ h9 => h9) hx0 dX0_told_77 ?_
              exact wk_X0_told_L80 hG _ _ _ _ hk hn hZ (lv_sub hl [] rfl) hw
            · replace hw := hw.2 c44
              refine lv_aload_n hx hb dX0_told_66 rfl (lv_at hl 0 rfl) ?_
              obtain ⟨fs0, g39, hM0, hx0, hw⟩ := hw
              refine z_getN hC hZ hM0 zc10 0 (by decide) q547 (fun _ h9 => h9) hx0 dX0_told_67 ?_
              obtain ⟨b40, hr0, hw⟩ := hw
              subst hr0
              obtain ⟨⟨ci0, fs0, hci0, hM0⟩, hw⟩ := hw
              obtain ⟨k42, n43, hk1, hn1, hw⟩ := hw
              obtain rfl : ci0 = 11 := List.mem_singleton.mp hci0
              refine z_callI hZ (vx_runV (As := []) (rest := []) hC.fix (w_X12_depth hlt 6 _ _ _ _ _ hw) (cwV 0 hts (lw_V q1009 q1010 q1011 q88 q1012) rfl rfl rfl ⟨rfl, dd_X12_depth⟩ ⟨(show 3 + 2 * 6 + 1 ≤ 16 by omega), (show 8 + (4 + 11) + (106 + 46 * 6) ≤ 405 by omega)⟩) (z_preV hC hZ hM0 zc11) rfl rfl hl.1 rfl (lv_room (Nat.zero_le _)) dX0_told_70 ⟨(show cells + k42 ≤ k by omega), (show slots + n43 ≤ n by omega)⟩) (fun r41 M H locs hw1 hZ => ?_) (fun q M H locs ci fs E T9 N9 hw hZ hc1 hM1 hb1 => False.elim hw)
              replace hw := hw1
              clear hw1
              have hk : cells + k42 + (k - k42) ≤ k := by omega
              have hn : slots + n43 + (n - n43) ≤ n := by omega
              generalize cells + k42 = cells at hk ⊢
              generalize slots + n43 = slots at hn ⊢
              clear hk1 hn1
              refine lv_goto (tgt := 80) hx hb dX0_told_73 (by decide) ?_
              exact wk_X0_told_L80 hG _ _ _ _ hk hn hZ (lv_sub hl [] rfl) hw
          · replace hw := hw.2 c50
            refine lv_aload_n hx hb dX0_told_51 rfl (lv_at hl 0 rfl) ?_
            obtain ⟨fs0, g45, hM0, hx0, hw⟩ := hw
            refine z_getN hC hZ hM0 zc10 2 (by decide) q552 (fun _ h9 => h9) hx0 dX0_told_52 ?_
            obtain ⟨b46, hr0, hw⟩ := hw
            subst hr0
            obtain ⟨⟨ci0, fs0, hci0, hM0⟩, hw⟩ := hw
            obtain rfl : ci0 = 26 := List.mem_singleton.mp hci0
            refine z_callI hZ (vx_runV (As := []) (rest := []) hC.fix (w_J3_size hlt hw) (cwV 0 hts (lw_V q505 q464 q465 q74 q466) rfl rfl rfl ⟨rfl, dd_J3_size⟩ ⟨Nat.le_of_ble_eq_true rfl, Nat.le_of_ble_eq_true rfl⟩) (z_preV hC hZ hM0 zc26) rfl rfl hl.1 rfl (lv_room (Nat.zero_le _)) dX0_told_55 ⟨(show cells + 0 ≤ k by omega), (show slots + 0 ≤ n by omega)⟩) (fun r47 M H locs hw1 hZ => ?_) (fun q M H locs ci fs E T9 N9 hw hZ hc1 hM1 hb1 => False.elim hw)
            replace hw := hw1
            clear hw1
            refine W.cs (cells' := cells) (slots' := slots) rfl rfl ?_
            refine lv_goto (tgt := 80) hx hb dX0_told_58 (by decide) ?_
            exact wk_X0_told_L80 hG _ _ _ _ hk hn hZ (lv_sub hl [] rfl) hw
        · replace hw := hw.2 c52
          refine lv_aload_n hx hb dX0_told_39 rfl (lv_at hl 0 rfl) ?_
          obtain ⟨fs0, g51, hM0, hx0, hw⟩ := hw
          refine z_getN hC hZ hM0 zc10 1 (by decide) q549 (fun _ h9 => h9) hx0 dX0_told_40 ?_
          refine lv_goto (tgt := 80) hx hb dX0_told_43 (by decide) ?_
          exact wk_X0_told_L80 hG _ _ _ _ hk hn hZ (lv_sub hl [] rfl) hw
      · replace hw := hw.2 hr0
        refine lv_bipush (v := (-2)) hx hb dX0_told_32 (by decide) ?_
        exact z_iret hG hZ (by omega) (by omega) hw dX0_told_34
    · replace hw := hw.2 c53
      exact wk_X0_told_L19 hG _ _ _ hk hn hZ (lv_sub hl [] rfl) hw
abbrev rm_X0_type : Room := { frames := 3, cells := 0, slots := 0, locals := 109 }
def wp_X0_type_L14 (D : zD) (post : Int32 → zM → Prop) (o : Nat) (M : zM) : Prop :=
    post (-1 : Int32) M
set_option maxHeartbeats 4000000 in
set_option maxRecDepth 100000 in
theorem wk_X0_type_L14 {p : Program} {l : Launch} {e : Env} {s : State} {m : MethodId} {args : Array Value} {below : List Frame} {meth : Method} {c : Code} {D : zD} {post : Int32 → zM → Prop} {o : Nat} (hG : zGx p l s m args meth c cX0_type 3 "PluralBranches" D (some .int) "type" []) : ∀ {H : Heap} {locs : List Loc} {cells slots : Nat} {ls : Array Slot} (M : zM), cells ≤ 0 → slots ≤ 0 → zS D M H locs → lv_has ls 3 [] → wp_X0_type_L14 D post o M → W p l e rm_X0_type s m args below meth c H locs cells slots (vx_MQ below (zQ D zI post) (zX D (fun _ _ => False)) args s 0 0 (zA D)) (F0 m 14 ls []) := by
  have hC := hG.1
  have hx := hC.x
  have hb := hC.b
  have hown := hC.o
  have hts := hC.ts
  have hlt := hG.2.2.2.2.2
  intro H locs cells slots ls M hk hn hZ hl hw
  refine lv_iconst (v := (-1)) hx hb dX0_type_14 (by decide) ?_
  exact z_iret hG hZ hk hn hw dX0_type_15
def wp_X0_type_L41 (D : zD) (post : Int32 → zM → Prop) (o : Nat) (y0 : Int32) (M : zM) : Prop :=
    post y0 M
set_option maxHeartbeats 4000000 in
set_option maxRecDepth 100000 in
theorem wk_X0_type_L41 {p : Program} {l : Launch} {e : Env} {s : State} {m : MethodId} {args : Array Value} {below : List Frame} {meth : Method} {c : Code} {D : zD} {post : Int32 → zM → Prop} {o : Nat} (hG : zGx p l s m args meth c cX0_type 3 "PluralBranches" D (some .int) "type" []) : ∀ {H : Heap} {locs : List Loc} {cells slots : Nat} {ls : Array Slot} (y0 : Int32) (M : zM), cells ≤ 0 → slots ≤ 0 → zS D M H locs → lv_has ls 3 [] → wp_X0_type_L41 D post o y0 M → W p l e rm_X0_type s m args below meth c H locs cells slots (vx_MQ below (zQ D zI post) (zX D (fun _ _ => False)) args s 0 0 (zA D)) (F0 m 41 ls [.int y0]) := by
  have hC := hG.1
  have hx := hC.x
  have hb := hC.b
  have hown := hC.o
  have hts := hC.ts
  have hlt := hG.2.2.2.2.2
  intro H locs cells slots ls y0 M hk hn hZ hl hw
  exact z_iret hG hZ hk hn hw dX0_type_41
def wp_X0_type (D : zD) (post : Int32 → zM → Prop) (o : Nat) (a0 : Int32) (a1 : Int32) (M : zM) : Prop :=
    (wp_X0_isSlot D (fun r1 M => ((r1 = 0 → wp_X0_type_L14 D post o M) ∧ (¬ r1 = 0 → (wp_X0_isArgument D (fun r4 M => ((¬ r4 = 0 → (zgR M o 0 5 fun g7 => ((zd g7 fun b8 => zaR M b8 8 a0 fun v9 => ((∀ b10 : Nat, v9 = some b10 → (zgR M o 0 5 fun g11 => ((zd g11 fun b12 => zaR M b12 8 a0 fun v13 => ((zd v13 fun b14 => zgR M b14 10 3 fun g15 => ((zd g15 fun b16 => zaI M b16 0 a1 fun v17 => wp_X0_type_L41 D post o v17 M)))))))) ∧ (v9 = none → wp_X0_type_L41 D post o (-2 : Int32) M)))))) ∧ (r4 = 0 → wp_X0_type_L14 D post o M))) a1 M)))) a0 M)
set_option maxHeartbeats 4000000 in
set_option maxRecDepth 100000 in
theorem w_X0_type {l : Launch} {D : zD} {post : Int32 → zM → Prop} (hlt : l.stackTraces = false) {o : Nat} {a0 : Int32} {a1 : Int32} {M : zM} (hw : wp_X0_type D post o a0 a1 M) : zMet l D yX0_type (ws_ yX0_type cX0_type 3 (some .int)) rm_X0_type 0 0 [.ref o, .int a0, .int a1] M zI post (fun _ _ => False) := by
  unfold wp_X0_type at hw
  have hlv : lv_args 0 [.ref o, .int a0, .int a1] = [(0, .ref o), (1, .int a0), (2, .int a1)] := (zargs1 rfl (zargs1 rfl (zargs1 rfl rfl)))
  refine z_ofW hlt (by decide) (Nat.le_trans (zsl1 rfl (zsl1 rfl (zsl1 rfl (Nat.le_refl 0 : (lg_sl []).length ≤ 0)))) (Nat.le_of_ble_eq_true rfl)) hlv ?_
  intro p e s m args below meth c ls hG hZ hl
  have hC := hG.1
  have hx := hC.x
  have hb := hC.b
  have hown := hC.o
  have hts := hC.ts
  have hlt := hG.2.2.2.2.2
  obtain ⟨cells, hce⟩ : ∃ z : Nat, z = 0 := ⟨0, rfl⟩
  obtain ⟨slots, hsl⟩ : ∃ z : Nat, z = 0 := ⟨0, rfl⟩
  refine W.cs (cells' := cells) (slots' := slots) hce.symm hsl.symm ?_
  have hk : cells ≤ 0 := Nat.le_of_eq hce
  have hn : slots ≤ 0 := Nat.le_of_eq hsl
  clear hce hsl
  refine lv_iload_n hx hb dX0_type_0 rfl (lv_at hl 1 rfl) ?_
  refine z_callI hZ (vx_runS (As := [.int a0]) (rest := []) hC.fix (w_X0_isSlot hlt hw) (va_cwS 1 hts (lw_S q528 q529 q67 q530) rfl rfl rfl dd_X0_isSlot ⟨Nat.le_of_ble_eq_true rfl, Nat.le_of_ble_eq_true rfl⟩) (z_preS hC hZ) rfl rfl hl.1 rfl (lv_room (Nat.zero_le _)) dX0_type_1 ⟨hk, hn⟩) (fun r20 M H locs hw1 hZ => ?_) (fun q M H locs ci fs E T9 N9 hw hZ hc1 hM1 hb1 => False.elim hw)
  replace hw := hw1
  clear hw1
  refine W.cs (cells' := cells) (slots' := slots) rfl rfl ?_
  refine lv_if_eq (tgt := 14) hx hb dX0_type_4 (by decide) (fun c38 => ?_) (fun c38 => ?_)
  · replace hw := hw.1 c38
    exact wk_X0_type_L14 hG _ hk hn hZ (lv_sub hl [] rfl) hw
  · replace hw := hw.2 c38
    refine lv_iload_n hx hb dX0_type_7 rfl (lv_at hl 2 rfl) ?_
    refine z_callI hZ (vx_runS (As := [.int a1]) (rest := []) hC.fix (w_X0_isArgument hlt hw) (va_cwS 1 hts (lw_S q1085 q1086 q67 q1087) rfl rfl rfl dd_X0_isArgument ⟨Nat.le_of_ble_eq_true rfl, Nat.le_of_ble_eq_true rfl⟩) (z_preS hC hZ) rfl rfl hl.1 rfl (lv_room (Nat.zero_le _)) dX0_type_8 ⟨hk, hn⟩) (fun r23 M H locs hw1 hZ => ?_) (fun q M H locs ci fs E T9 N9 hw hZ hc1 hM1 hb1 => False.elim hw)
    replace hw := hw1
    clear hw1
    refine W.cs (cells' := cells) (slots' := slots) rfl rfl ?_
    refine lv_if_ne (tgt := 16) hx hb dX0_type_11 (by decide) (fun c37 => ?_) (fun c37 => ?_)
    · replace hw := hw.1 c37
      refine lv_aload_n hx hb dX0_type_16 rfl (lv_at hl 0 rfl) ?_
      obtain ⟨fs0, g26, hM0, hx0, hw⟩ := hw
      refine z_get hC hZ hM0 zc0 5 (by decide) q406 (fun _ h9 => h9) hx0 dX0_type_17 ?_
      refine lv_iload_n hx hb dX0_type_20 rfl (lv_at hl 1 rfl) ?_
      obtain ⟨b27, hr0, hw⟩ := hw
      subst hr0
      obtain ⟨n0, f0, v28, hM0, hi0, hr0, hw⟩ := hw
      refine z_aald hC hZ hM0 (by decide) rfl hi0 hr0 dX0_type_21 ?_
      refine z_ifnonnull (tgt := 30) hC dX0_type_22 (by decide) (fun b29 hr0 => ?_) (fun hr0 => ?_)
      · replace hw := hw.1 b29 hr0
        subst hr0
        refine lv_aload_n hx hb dX0_type_30 rfl (lv_at hl 0 rfl) ?_
        obtain ⟨fs0, g30, hM0, hx0, hw⟩ := hw
        refine z_get hC hZ hM0 zc0 5 (by decide) q406 (fun _ h9 => h9) hx0 dX0_type_31 ?_
        refine lv_iload_n hx hb dX0_type_34 rfl (lv_at hl 1 rfl) ?_
        obtain ⟨b31, hr0, hw⟩ := hw
        subst hr0
        obtain ⟨n0, f0, v32, hM0, hi0, hr0, hw⟩ := hw
        refine z_aald hC hZ hM0 (by decide) rfl hi0 hr0 dX0_type_35 ?_
        obtain ⟨b33, hr0, hw⟩ := hw
        subst hr0
        obtain ⟨fs0, g34, hM0, hx0, hw⟩ := hw
        refine z_getN hC hZ hM0 zc10 3 (by decide) q555 (fun _ h9 => h9) hx0 dX0_type_36 ?_
        refine lv_iload_n hx hb dX0_type_39 rfl (lv_at hl 2 rfl) ?_
        obtain ⟨b35, hr0, hw⟩ := hw
        subst hr0
        obtain ⟨n0, f0, hM0, hi0, hw⟩ := hw
        refine z_iald hC hZ hM0 hi0 dX0_type_40 ?_
        generalize f0 _ = v36 at hw ⊢
        exact wk_X0_type_L41 hG _ _ hk hn hZ (lv_sub hl [] rfl) hw
      · replace hw := hw.2 hr0
        refine lv_bipush (v := (-2)) hx hb dX0_type_25 (by decide) ?_
        refine lv_goto (tgt := 41) hx hb dX0_type_27 (by decide) ?_
        exact wk_X0_type_L41 hG _ _ hk hn hZ (lv_sub hl [] rfl) hw
    · replace hw := hw.2 c37
      exact wk_X0_type_L14 hG _ hk hn hZ (lv_sub hl [] rfl) hw
abbrev rm_X0_used : Room := { frames := 7, cells := 0, slots := 0, locals := 201 }
def wp_X0_used_L20 (D : zD) (post : Int32 → zM → Prop) (o : Nat) (y0 : Int32) (M : zM) : Prop :=
    post y0 M
set_option maxHeartbeats 4000000 in
set_option maxRecDepth 100000 in
theorem wk_X0_used_L20 {p : Program} {l : Launch} {e : Env} {s : State} {m : MethodId} {args : Array Value} {below : List Frame} {meth : Method} {c : Code} {D : zD} {post : Int32 → zM → Prop} {o : Nat} (hG : zGx p l s m args meth c cX0_used 2 "PluralBranches" D (some .int) "used" []) : ∀ {H : Heap} {locs : List Loc} {cells slots : Nat} {ls : Array Slot} (y0 : Int32) (M : zM), cells ≤ 0 → slots ≤ 0 → zS D M H locs → lv_has ls 2 [] → wp_X0_used_L20 D post o y0 M → W p l e rm_X0_used s m args below meth c H locs cells slots (vx_MQ below (zQ D zI post) (zX D (fun _ _ => False)) args s 0 0 (zA D)) (F0 m 20 ls [.int y0]) := by
  have hC := hG.1
  have hx := hC.x
  have hb := hC.b
  have hown := hC.o
  have hts := hC.ts
  have hlt := hG.2.2.2.2.2
  intro H locs cells slots ls y0 M hk hn hZ hl hw
  exact z_iret hG hZ hk hn hw dX0_used_20
def wp_X0_used (D : zD) (post : Int32 → zM → Prop) (o : Nat) (a0 : Int32) (M : zM) : Prop :=
    (wp_X0_isLanguage D (fun r1 M => ((r1 = 0 → wp_X0_used_L20 D post o (-1 : Int32) M) ∧ (¬ r1 = 0 → (zgR M o 0 0 fun g4 => ((zd g4 fun b5 => zaR M b5 6 a0 fun v6 => ((zd v6 fun b7 => (zis M b7 [2, 4, 5, 6] ∧ wp_X2_used D (fun r8 M => wp_X0_used_L20 D post o r8 M) b7 M))))))))) a0 M)
set_option maxHeartbeats 4000000 in
set_option maxRecDepth 100000 in
theorem w_X0_used {l : Launch} {D : zD} {post : Int32 → zM → Prop} (hlt : l.stackTraces = false) {o : Nat} {a0 : Int32} {M : zM} (hw : wp_X0_used D post o a0 M) : zMet l D yX0_used (ws_ yX0_used cX0_used 2 (some .int)) rm_X0_used 0 0 [.ref o, .int a0] M zI post (fun _ _ => False) := by
  unfold wp_X0_used at hw
  have hlv : lv_args 0 [.ref o, .int a0] = [(0, .ref o), (1, .int a0)] := (zargs1 rfl (zargs1 rfl rfl))
  refine z_ofW hlt (by decide) (Nat.le_trans (zsl1 rfl (zsl1 rfl (Nat.le_refl 0 : (lg_sl []).length ≤ 0))) (Nat.le_of_ble_eq_true rfl)) hlv ?_
  intro p e s m args below meth c ls hG hZ hl
  have hC := hG.1
  have hx := hC.x
  have hb := hC.b
  have hown := hC.o
  have hts := hC.ts
  have hlt := hG.2.2.2.2.2
  obtain ⟨cells, hce⟩ : ∃ z : Nat, z = 0 := ⟨0, rfl⟩
  obtain ⟨slots, hsl⟩ : ∃ z : Nat, z = 0 := ⟨0, rfl⟩
  refine W.cs (cells' := cells) (slots' := slots) hce.symm hsl.symm ?_
  have hk : cells ≤ 0 := Nat.le_of_eq hce
  have hn : slots ≤ 0 := Nat.le_of_eq hsl
  clear hce hsl
  refine lv_iload_n hx hb dX0_used_0 rfl (lv_at hl 1 rfl) ?_
  refine z_callI hZ (vx_runS (As := [.int a0]) (rest := []) hC.fix (w_X0_isLanguage hlt hw) (va_cwS 1 hts (lw_S q447 q448 q67 q449) rfl rfl rfl dd_X0_isLanguage ⟨Nat.le_of_ble_eq_true rfl, Nat.le_of_ble_eq_true rfl⟩) (z_preS hC hZ) rfl rfl hl.1 rfl (lv_room (Nat.zero_le _)) dX0_used_1 ⟨hk, hn⟩) (fun r12 M H locs hw1 hZ => ?_) (fun q M H locs ci fs E T9 N9 hw hZ hc1 hM1 hb1 => False.elim hw)
  replace hw := hw1
  clear hw1
  refine W.cs (cells' := cells) (slots' := slots) rfl rfl ?_
  refine lv_if_eq (tgt := 19) hx hb dX0_used_4 (by decide) (fun c22 => ?_) (fun c22 => ?_)
  · replace hw := hw.1 c22
    refine lv_iconst (v := (-1)) hx hb dX0_used_19 (by decide) ?_
    exact wk_X0_used_L20 hG _ _ hk hn hZ (lv_sub hl [] rfl) hw
  · replace hw := hw.2 c22
    refine lv_aload_n hx hb dX0_used_7 rfl (lv_at hl 0 rfl) ?_
    obtain ⟨fs0, g15, hM0, hx0, hw⟩ := hw
    refine z_get hC hZ hM0 zc0 0 (by decide) q399 (fun _ h9 => h9) hx0 dX0_used_8 ?_
    refine lv_iload_n hx hb dX0_used_11 rfl (lv_at hl 1 rfl) ?_
    obtain ⟨b16, hr0, hw⟩ := hw
    subst hr0
    obtain ⟨n0, f0, v17, hM0, hi0, hr0, hw⟩ := hw
    refine z_aald hC hZ hM0 (by decide) rfl hi0 hr0 dX0_used_12 ?_
    obtain ⟨b18, hr0, hw⟩ := hw
    subst hr0
    obtain ⟨⟨ci0, fs0, hci0, hM0⟩, hw⟩ := hw
    obtain ⟨C0, T0, N0, ty0, hc0, hsel0⟩ : ∃ (C0 : String) (T0 : u_T) (N0 : Nat) (ty0 : Nat → FieldType), zCls ci0 C0 T0 N0 ty0 ∧ Cond.selects C0 ⟨"PluralBranches$Language", "used", "()I"⟩ yX2_used ∈ lw_all := (zal ⟨_, _, _, _, zc2, q496⟩ (zal ⟨_, _, _, _, zc4, q495⟩ (zal ⟨_, _, _, _, zc5, q494⟩ (zal ⟨_, _, _, _, zc6, q497⟩ (za0)))) : ∀ ci ∈ [2, 4, 5, 6], ∃ (C0 : String) (T0 : u_T) (N0 : Nat) (ty0 : Nat → FieldType), zCls ci C0 T0 N0 ty0 ∧ Cond.selects C0 ⟨"PluralBranches$Language", "used", "()I"⟩ yX2_used ∈ lw_all) ci0 hci0
    refine z_callI hZ (vx_runU (As := []) (rest := []) hC.fix (w_X2_used hlt hw) (va_cwU (owner := "PluralBranches$Language") (x := ⟨"PluralBranches$Language", "used", "()I"⟩) 0 hts (lw_app (zal q491 (zal q493 (zal hsel0 (zal q492 (zal q70 za0))))) (lw_meth q498)) rfl rfl rfl rfl (by decide +kernel) ⟨Nat.le_of_ble_eq_true rfl, Nat.le_of_ble_eq_true rfl⟩) (z_preV hC hZ hM0 hc0) rfl rfl hl.1 rfl (lv_room (Nat.zero_le _)) dX0_used_13 ⟨hk, hn⟩) (fun r19 M H locs hw1 hZ => ?_) (fun q M H locs ci fs E T9 N9 hw hZ hc1 hM1 hb1 => False.elim hw)
    replace hw := hw1
    clear hw1
    refine W.cs (cells' := cells) (slots' := slots) rfl rfl ?_
    refine lv_goto (tgt := 20) hx hb dX0_used_16 (by decide) ?_
    exact wk_X0_used_L20 hG _ _ hk hn hZ (lv_sub hl [] rfl) hw
abbrev rm_X0_wipe : Room := { frames := 1, cells := 0, slots := 0, locals := 64 }
def wp_X0_wipe (D : zD) (post : Int32 → zM → Prop) (o : Nat) (M : zM) : Prop :=
    (zgI M o 0 4 fun g1 => (zp D M o 0 4 (.int (0 : Int32)) fun M => post g1 M))
set_option maxHeartbeats 4000000 in
set_option maxRecDepth 100000 in
theorem w_X0_wipe {l : Launch} {D : zD} {post : Int32 → zM → Prop} (hlt : l.stackTraces = false) {o : Nat} {M : zM} (hw : wp_X0_wipe D post o M) : zMet l D yX0_wipe (ws_ yX0_wipe cX0_wipe 2 (some .int)) rm_X0_wipe 0 0 [.ref o] M zI post (fun _ _ => False) := by
  unfold wp_X0_wipe at hw
  have hlv : lv_args 0 [.ref o] = [(0, .ref o)] := (zargs1 rfl rfl)
  refine z_ofW hlt (by decide) (Nat.le_trans (zsl1 rfl (Nat.le_refl 0 : (lg_sl []).length ≤ 0)) (Nat.le_of_ble_eq_true rfl)) hlv ?_
  intro p e s m args below meth c ls hG hZ hl
  have hC := hG.1
  have hx := hC.x
  have hb := hC.b
  have hown := hC.o
  have hts := hC.ts
  have hlt := hG.2.2.2.2.2
  obtain ⟨cells, hce⟩ : ∃ z : Nat, z = 0 := ⟨0, rfl⟩
  obtain ⟨slots, hsl⟩ : ∃ z : Nat, z = 0 := ⟨0, rfl⟩
  refine W.cs (cells' := cells) (slots' := slots) hce.symm hsl.symm ?_
  have hk : cells ≤ 0 := Nat.le_of_eq hce
  have hn : slots ≤ 0 := Nat.le_of_eq hsl
  clear hce hsl
  refine lv_aload_n hx hb dX0_wipe_0 rfl (lv_at hl 0 rfl) ?_
  obtain ⟨fs0, g3, hM0, hx0, hw⟩ := hw
  refine z_get hC hZ hM0 zc0 4 (by decide) q405 (fun _ h9 => h9) hx0 dX0_wipe_1 ?_
  refine lv_istore_n (i := 1) (lv' := [(1, .int g3), (0, .ref o)]) hx hb dX0_wipe_4 rfl hl (by decide) rfl (fun ls hl1 => ?_)
  replace hl := hl1
  clear hl1
  refine lv_aload_n hx hb dX0_wipe_5 rfl (lv_at hl 1 rfl) ?_
  refine lv_iconst (v := 0) hx hb dX0_wipe_6 (by decide) ?_
  obtain ⟨fs0, hM0, hb0, hk0, hw⟩ := hw
  refine z_put hC hZ hM0 hb0 zc0 4 (by decide) q405 (fun _ h9 => h9) (by decide) rfl rfl hk0 dX0_wipe_7 (fun H locs hZ => ?_)
  generalize zu M _ _ = M at hw hZ
  refine lv_iload_n hx hb dX0_wipe_10 rfl (lv_at hl 0 rfl) ?_
  exact z_iret hG hZ hk hn hw dX0_wipe_11
