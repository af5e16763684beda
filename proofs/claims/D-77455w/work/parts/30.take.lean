set_option maxRecDepth 100000
theorem dd_X0_decimal : yX0_decimal.cls ≠ "java/lang/invoke/MethodHandle" ∧ yX0_decimal.cls ≠ "java/lang/invoke/VarHandle" ∧ (parseMethodDescriptor yX0_decimal.desc).map (fun d => d.parameters.length) = some 3 := by decide +kernel
abbrev rm_X0_take (K N : Nat) : Room := { frames := 8, cells := K, slots := N, locals := 1400 }
def wp_X0_take_L15 (D : zD) (post : Int32 → zM → Prop) (o : Nat) (k : Nat) (n : Nat) (M : zM) : Prop :=
    post (-1 : Int32) M
set_option maxHeartbeats 4000000 in
set_option maxRecDepth 100000 in
theorem wk_X0_take_L15 {p : Program} {l : Launch} {e : Env} {s : State} {m : MethodId} {args : Array Value} {below : List Frame} {meth : Method} {c : Code} {D : zD} {post : Int32 → zM → Prop} {K N : Nat} {o : Nat} (hG : zGx p l s m args meth c cX0_take 9 "PluralBranches" D (some .int) "take" []) : ∀ {H : Heap} {locs : List Loc} {cells slots : Nat} {ls : Array Slot} (k : Nat) (n : Nat) (M : zM), cells + k ≤ K → slots + n ≤ N → zS D M H locs → lv_has ls 9 [] → wp_X0_take_L15 D post o k n M → W p l e (rm_X0_take K N) s m args below meth c H locs cells slots (vx_MQ below (zQ D zI post) (zX D (fun _ _ => False)) args s K N (zA D)) (F0 m 15 ls []) := by
  have hC := hG.1
  have hx := hC.x
  have hb := hC.b
  have hown := hC.o
  have hts := hC.ts
  have hlt := hG.2.2.2.2.2
  intro H locs cells slots ls k n M hk hn hZ hl hw
  refine lv_iconst (v := (-1)) hx hb dX0_take_15 (by decide) ?_
  exact z_iret hG hZ (by omega) (by omega) hw dX0_take_16
def wp_X0_take_L154 (D : zD) (post : Int32 → zM → Prop) (o : Nat) (k : Nat) (n : Nat) (y0 : Int32) (M : zM) : Prop :=
    post y0 M
set_option maxHeartbeats 4000000 in
set_option maxRecDepth 100000 in
theorem wk_X0_take_L154 {p : Program} {l : Launch} {e : Env} {s : State} {m : MethodId} {args : Array Value} {below : List Frame} {meth : Method} {c : Code} {D : zD} {post : Int32 → zM → Prop} {K N : Nat} {o : Nat} (hG : zGx p l s m args meth c cX0_take 9 "PluralBranches" D (some .int) "take" []) : ∀ {H : Heap} {locs : List Loc} {cells slots : Nat} {ls : Array Slot} (k : Nat) (n : Nat) (y0 : Int32) (M : zM), cells + k ≤ K → slots + n ≤ N → zS D M H locs → lv_has ls 9 [] → wp_X0_take_L154 D post o k n y0 M → W p l e (rm_X0_take K N) s m args below meth c H locs cells slots (vx_MQ below (zQ D zI post) (zX D (fun _ _ => False)) args s K N (zA D)) (F0 m 154 ls [.int y0]) := by
  have hC := hG.1
  have hx := hC.x
  have hb := hC.b
  have hown := hC.o
  have hts := hC.ts
  have hlt := hG.2.2.2.2.2
  intro H locs cells slots ls k n y0 M hk hn hZ hl hw
  exact z_iret hG hZ (by omega) (by omega) hw dX0_take_154
def wp_X0_take_L152 (D : zD) (post : Int32 → zM → Prop) (o : Nat) (k : Nat) (n : Nat) (M : zM) : Prop :=
    wp_X0_take_L154 D post o k n (-4 : Int32) M
set_option maxHeartbeats 4000000 in
set_option maxRecDepth 100000 in
theorem wk_X0_take_L152 {p : Program} {l : Launch} {e : Env} {s : State} {m : MethodId} {args : Array Value} {below : List Frame} {meth : Method} {c : Code} {D : zD} {post : Int32 → zM → Prop} {K N : Nat} {o : Nat} (hG : zGx p l s m args meth c cX0_take 9 "PluralBranches" D (some .int) "take" []) : ∀ {H : Heap} {locs : List Loc} {cells slots : Nat} {ls : Array Slot} (k : Nat) (n : Nat) (M : zM), cells + k ≤ K → slots + n ≤ N → zS D M H locs → lv_has ls 9 [] → wp_X0_take_L152 D post o k n M → W p l e (rm_X0_take K N) s m args below meth c H locs cells slots (vx_MQ below (zQ D zI post) (zX D (fun _ _ => False)) args s K N (zA D)) (F0 m 152 ls []) := by
  have hC := hG.1
  have hx := hC.x
  have hb := hC.b
  have hown := hC.o
  have hts := hC.ts
  have hlt := hG.2.2.2.2.2
  intro H locs cells slots ls k n M hk hn hZ hl hw
  refine lv_bipush (v := (-4)) hx hb dX0_take_152 (by decide) ?_
  exact wk_X0_take_L154 hG _ _ _ _ hk hn hZ (lv_sub hl [] rfl) hw
def wp_X0_take (D : zD) (post : Int32 → zM → Prop) (k : Nat) (n : Nat) (o : Nat) (a0 : Int32) (a1 : Int32) (a2 : Int32) (a3 : Int32) (M : zM) : Prop :=
    (wp_X0_isArgument D (fun r1 M => ((r1 = 0 → wp_X0_take_L15 D post o k n M) ∧ (¬ r1 = 0 → (wp_X0_isScale D (fun r4 M => ((¬ r4 = 0 → ((zis M o [0] ∧ wp_X0_unlike D (fun r7 M => ((r7 = 0 → (zgR M o 0 7 fun g10 => ((zd g10 fun b11 => zaR M b11 10 a1 fun v12 => ((zd v12 fun b13 => zgR M b13 7 0 fun g14 => ((∃ w x, g14 = some w ∧ zB D ≤ w ∧ M w = some (.inl (2, x)) ∧ (((1 : Int32) = 0 → (zgR M o 0 7 fun g15 => ((zd g15 fun b16 => zaR M b16 10 a1 fun v17 => ((zd v17 fun b18 => (zis M b18 [7] ∧ wp_X8_number D (fun r19 M => (wp_X0_tens D (fun r22 M => (vf_n64 (FP.dmul r19 (FP.l2d r22)) ∧ (zrintok (FP.dmul r19 (FP.l2d r22)) ∧ (((Op.cmpValue (FP.dcmp (zrint (FP.dmul r19 (FP.l2d r22))) (13970166044105375744 : UInt64)) .l) ≤ 0 → wp_X0_take_L152 D post o k n M) ∧ (¬ (Op.cmpValue (FP.dcmp (zrint (FP.dmul r19 (FP.l2d r22))) (13970166044105375744 : UInt64)) .l) ≤ 0 → ((0 ≤ (Op.cmpValue (FP.dcmp (zrint (FP.dmul r19 (FP.l2d r22))) (4746794007248502784 : UInt64)) .g) → wp_X0_take_L152 D post o k n M) ∧ (¬ 0 ≤ (Op.cmpValue (FP.dcmp (zrint (FP.dmul r19 (FP.l2d r22))) (4746794007248502784 : UInt64)) .g) → ((zis M o [0] ∧ (∃ k26 n27, k26 ≤ k ∧ n27 ≤ n ∧ wp_X0_decimal D (fun r25 M => wp_X0_take_L154 D post o (k - k26) (n - n27) r25 M) k26 n27 o a0 (FP.d2i (zrint (FP.dmul r19 (FP.l2d r22)))) a3 M)))))))))) a3 M)) b18 a2 M))))))) ∧ (¬ (1 : Int32) = 0 → ((∀ w, g14 = some w → zB D ≤ w ∧ ∃ x : vp_A, M w = some (.inl (2, x))) ∧ ((zd g14 fun b30 => zaL M b30 a2 fun v31 => (wp_X0_tens D (fun r32 M => (wp_X0_in D (fun r35 M => ((¬ r35 = 0 → ((zis M o [0] ∧ (∃ k39 n40, k39 ≤ k ∧ n40 ≤ n ∧ wp_X0_decimal D (fun r38 M => post r38 M) k39 n40 o a0 ((v31 * r32).toInt32) a3 M)))) ∧ (r35 = 0 → post (-4 : Int32) M))) (v31 * r32) (-2147483648 : Int64) (2147483647 : Int64) M)) a3 M))))))) ∨ ((∀ w, g14 = some w → zB D ≤ w ∧ ∃ x : vp_A, M w = some (.inl (3, x)) ∨ M w = some (.inl (4, x))) ∧ (((0 : Int32) = 0 → (zgR M o 0 7 fun g43 => ((zd g43 fun b44 => zaR M b44 10 a1 fun v45 => ((zd v45 fun b46 => (zis M b46 [7] ∧ wp_X8_number D (fun r47 M => (wp_X0_tens D (fun r50 M => (vf_n64 (FP.dmul r47 (FP.l2d r50)) ∧ (zrintok (FP.dmul r47 (FP.l2d r50)) ∧ (((Op.cmpValue (FP.dcmp (zrint (FP.dmul r47 (FP.l2d r50))) (13970166044105375744 : UInt64)) .l) ≤ 0 → wp_X0_take_L152 D post o k n M) ∧ (¬ (Op.cmpValue (FP.dcmp (zrint (FP.dmul r47 (FP.l2d r50))) (13970166044105375744 : UInt64)) .l) ≤ 0 → ((0 ≤ (Op.cmpValue (FP.dcmp (zrint (FP.dmul r47 (FP.l2d r50))) (4746794007248502784 : UInt64)) .g) → wp_X0_take_L152 D post o k n M) ∧ (¬ 0 ≤ (Op.cmpValue (FP.dcmp (zrint (FP.dmul r47 (FP.l2d r50))) (4746794007248502784 : UInt64)) .g) → ((zis M o [0] ∧ (∃ k54 n55, k54 ≤ k ∧ n55 ≤ n ∧ wp_X0_decimal D (fun r53 M => wp_X0_take_L154 D post o (k - k54) (n - n55) r53 M) k54 n55 o a0 (FP.d2i (zrint (FP.dmul r47 (FP.l2d r50)))) a3 M)))))))))) a3 M)) b46 a2 M))))))) ∧ (¬ (0 : Int32) = 0 → ((∀ w, g14 = some w → zB D ≤ w ∧ ∃ x : vp_A, M w = some (.inl (2, x))) ∧ ((zd g14 fun b58 => zaL M b58 a2 fun v59 => (wp_X0_tens D (fun r60 M => (wp_X0_in D (fun r63 M => ((¬ r63 = 0 → ((zis M o [0] ∧ (∃ k67 n68, k67 ≤ k ∧ n68 ≤ n ∧ wp_X0_decimal D (fun r66 M => post r66 M) k67 n68 o a0 ((v59 * r60).toInt32) a3 M)))) ∧ (r63 = 0 → post (-4 : Int32) M))) (v59 * r60) (-2147483648 : Int64) (2147483647 : Int64) M)) a3 M)))))))))))))) ∧ (¬ r7 = 0 → post r7 M))) o a1 a2 M))) ∧ (r4 = 0 → wp_X0_take_L15 D post o k n M))) a3 M)))) a0 M)
set_option maxHeartbeats 4000000 in
set_option maxRecDepth 100000 in
theorem w_X0_take {l : Launch} {D : zD} {post : Int32 → zM → Prop} (hlt : l.stackTraces = false) {k : Nat} {n : Nat} {o : Nat} {a0 : Int32} {a1 : Int32} {a2 : Int32} {a3 : Int32} {M : zM} (hw : wp_X0_take D post k n o a0 a1 a2 a3 M) : zMet l D yX0_take (ws_ yX0_take cX0_take 9 (some .int)) (rm_X0_take k n) k n [.ref o, .int a0, .int a1, .int a2, .int a3] M zI post (fun _ _ => False) := by
  unfold wp_X0_take at hw
  have hlv : lv_args 0 [.ref o, .int a0, .int a1, .int a2, .int a3] = [(0, .ref o), (1, .int a0), (2, .int a1), (3, .int a2), (4, .int a3)] := (zargs1 rfl (zargs1 rfl (zargs1 rfl (zargs1 rfl (zargs1 rfl rfl)))))
  refine z_ofW hlt (by decide) (Nat.le_trans (zsl1 rfl (zsl1 rfl (zsl1 rfl (zsl1 rfl (zsl1 rfl (Nat.le_refl 0 : (lg_sl []).length ≤ 0)))))) (Nat.le_of_ble_eq_true rfl)) hlv ?_
  intro p e s m args below meth c ls hG hZ hl
  have hC := hG.1
  have hx := hC.x
  have hb := hC.b
  have hown := hC.o
  have hts := hC.ts
  have hlt := hG.2.2.2.2.2
  obtain ⟨cells, hce⟩ : ∃ z : Nat, z = 0 := ⟨0, rfl⟩
  obtain ⟨slots, hsl⟩ : ∃ z : Nat, z = 0 := ⟨0, rfl⟩
  refine W.cs (cells' := cells) (slots' := slots) hce.symm hsl.symm ?_
  have hk : cells + k ≤ k := by omega
  have hn : slots + n ≤ n := by omega
  clear hce hsl
  refine lv_iload_n hx hb dX0_take_0 rfl (lv_at hl 1 rfl) ?_
  refine z_callI hZ (vx_runS (As := [.int a0]) (rest := []) hC.fix (w_X0_isArgument hlt hw) (va_cwS 1 hts (lw_S q1085 q1086 q67 q1087) rfl rfl rfl dd_X0_isArgument ⟨Nat.le_of_ble_eq_true rfl, Nat.le_of_ble_eq_true rfl⟩) (z_preS hC hZ) rfl rfl hl.1 rfl (lv_room (Nat.zero_le _)) dX0_take_1 ⟨(show cells + 0 ≤ k by omega), (show slots + 0 ≤ n by omega)⟩) (fun r74 M H locs hw1 hZ => ?_) (fun q M H locs ci fs E T9 N9 hw hZ hc1 hM1 hb1 => False.elim hw)
  replace hw := hw1
  clear hw1
  refine W.cs (cells' := cells) (slots' := slots) rfl rfl ?_
  refine lv_if_eq (tgt := 15) hx hb dX0_take_4 (by decide) (fun c146 => ?_) (fun c146 => ?_)
  · replace hw := hw.1 c146
    exact wk_X0_take_L15 hG _ _ _ hk hn hZ (lv_sub hl [] rfl) hw
  · replace hw := hw.2 c146
    refine lv_iload hx hb dX0_take_7 (lv_at hl 4 rfl) ?_
    refine z_callI hZ (vx_runS (As := [.int a3]) (rest := []) hC.fix (w_X0_isScale hlt hw) (va_cwS 1 hts (lw_S q430 q431 q67 q432) rfl rfl rfl dd_X0_isScale ⟨Nat.le_of_ble_eq_true rfl, Nat.le_of_ble_eq_true rfl⟩) (z_preS hC hZ) rfl rfl hl.1 rfl (lv_room (Nat.zero_le _)) dX0_take_9 ⟨(show cells + 0 ≤ k by omega), (show slots + 0 ≤ n by omega)⟩) (fun r77 M H locs hw1 hZ => ?_) (fun q M H locs ci fs E T9 N9 hw hZ hc1 hM1 hb1 => False.elim hw)
    replace hw := hw1
    clear hw1
    refine W.cs (cells' := cells) (slots' := slots) rfl rfl ?_
    refine lv_if_ne (tgt := 17) hx hb dX0_take_12 (by decide) (fun c145 => ?_) (fun c145 => ?_)
    · replace hw := hw.1 c145
      refine lv_aload_n hx hb dX0_take_17 rfl (lv_at hl 0 rfl) ?_
      refine lv_iload_n hx hb dX0_take_18 rfl (lv_at hl 2 rfl) ?_
      refine lv_iload_n hx hb dX0_take_19 rfl (lv_at hl 3 rfl) ?_
      obtain ⟨⟨ci0, fs0, hci0, hM0⟩, hw⟩ := hw
      obtain rfl : ci0 = 0 := List.mem_singleton.mp hci0
      refine z_callI hZ (vx_runV (As := [.int a1, .int a2]) (rest := []) hC.fix (w_X0_unlike hlt hw) (cwV 2 hts (lw_V q1645 q1647 qs27 q67 q1648) rfl rfl rfl ⟨rfl, dd_X0_unlike⟩ ⟨Nat.le_of_ble_eq_true rfl, Nat.le_of_ble_eq_true rfl⟩) (z_preV hC hZ hM0 zc0) rfl rfl hl.1 rfl (lv_room (Nat.zero_le _)) dX0_take_20 ⟨(show cells + 0 ≤ k by omega), (show slots + 0 ≤ n by omega)⟩) (fun r80 M H locs hw1 hZ => ?_) (fun q M H locs ci fs E T9 N9 hw hZ hc1 hM1 hb1 => False.elim hw)
      replace hw := hw1
      clear hw1
      refine W.cs (cells' := cells) (slots' := slots) rfl rfl ?_
      refine lv_istore (i := 5) (lv' := [(5, .int r80), (0, .ref o), (1, .int a0), (2, .int a1), (3, .int a2), (4, .int a3)]) hx hb dX0_take_23 hl (by decide) rfl (fun ls hl1 => ?_)
      replace hl := hl1
      clear hl1
      refine lv_iload hx hb dX0_take_25 (lv_at hl 0 rfl) ?_
      refine lv_if_eq (tgt := 33) hx hb dX0_take_27 (by decide) (fun c144 => ?_) (fun c144 => ?_)
      · replace hw := hw.1 c144
        refine lv_aload_n hx hb dX0_take_33 rfl (lv_at hl 1 rfl) ?_
        obtain ⟨fs0, g83, hM0, hx0, hw⟩ := hw
        refine z_get hC hZ hM0 zc0 7 (by decide) q408 (fun _ h9 => h9) hx0 dX0_take_34 ?_
        refine lv_iload_n hx hb dX0_take_37 rfl (lv_at hl 3 rfl) ?_
        obtain ⟨b84, hr0, hw⟩ := hw
        subst hr0
        obtain ⟨n0, f0, v85, hM0, hi0, hr0, hw⟩ := hw
        refine z_aald hC hZ hM0 (by decide) rfl hi0 hr0 dX0_take_38 ?_
        obtain ⟨b86, hr0, hw⟩ := hw
        subst hr0
        obtain ⟨fs0, g87, hM0, hx0, hw⟩ := hw
        refine z_getN hC hZ hM0 zc7 0 (by decide) q395 (fun _ h9 => h9) hx0 dX0_take_39 ?_
        refine z_astore (i := 7) (lv' := [(7, va_rf g87), (5, .int r80), (0, .ref o), (1, .int a0), (2, .int a1), (3, .int a2), (4, .int a3)]) hC dX0_take_42 hl (by decide) rfl (fun ls hl1 => ?_)
        replace hl := hl1
        clear hl1
        refine z_aload hC dX0_take_44 (lv_at hl 0 rfl) ?_
        rcases hw with ⟨w0, x0, hr0, hb0, hM0, hw⟩ | ⟨hc0, hw⟩
        · refine z_instAYO (r := g87) (t := .long) hC hZ hr0 hM0 hb0 (Or.inl ⟨rfl, rfl⟩) rfl q1656 dX0_take_46 ?_
          refine lv_if_eq (tgt := 99) hx hb dX0_take_49 (by decide) (fun c115 => ?_) (fun c115 => ?_)
          · replace hw := hw.1 c115
            refine lv_aload_n hx hb dX0_take_99 rfl (lv_at hl 2 rfl) ?_
            obtain ⟨fs0, g88, hM0, hx0, hw⟩ := hw
            refine z_get hC hZ hM0 zc0 7 (by decide) q408 (fun _ h9 => h9) hx0 dX0_take_100 ?_
            refine lv_iload_n hx hb dX0_take_103 rfl (lv_at hl 4 rfl) ?_
            obtain ⟨b89, hr0, hw⟩ := hw
            subst hr0
            obtain ⟨n0, f0, v90, hM0, hi0, hr0, hw⟩ := hw
            refine z_aald hC hZ hM0 (by decide) rfl hi0 hr0 dX0_take_104 ?_
            refine lv_iload_n hx hb dX0_take_105 rfl (lv_at hl 5 rfl) ?_
            obtain ⟨b91, hr0, hw⟩ := hw
            subst hr0
            obtain ⟨⟨ci0, fs0, hci0, hM0⟩, hw⟩ := hw
            obtain rfl : ci0 = 7 := List.mem_singleton.mp hci0
            refine z_callD hZ (vx_runV (As := [.int a2]) (rest := []) hC.fix (w_X8_number hlt hw) (cwV 1 hts (lw_V q1667 q1668 q1669 q82 q1670) rfl rfl rfl ⟨rfl, dd_X8_number⟩ ⟨Nat.le_of_ble_eq_true rfl, Nat.le_of_ble_eq_true rfl⟩) (z_preV hC hZ hM0 zc7) rfl rfl hl.1 rfl (lv_room (Nat.zero_le _)) dX0_take_106 ⟨(show cells + 0 ≤ k by omega), (show slots + 0 ≤ n by omega)⟩) (fun r92 M H locs hw1 hZ => ?_) (fun q M H locs ci fs E T9 N9 hw hZ hc1 hM1 hb1 => False.elim hw)
            replace hw := hw1
            clear hw1
            refine W.cs (cells' := cells) (slots' := slots) rfl rfl ?_
            refine lv_iload hx hb dX0_take_109 (lv_at hl 6 rfl) ?_
            refine z_callL hZ (vx_runS (As := [.int a3]) (rest := [.double r92]) hC.fix (w_X0_tens hlt hw) (va_cwS 1 hts (lw_S q1337 q142 q67 q143) rfl rfl rfl dd_X0_tens ⟨Nat.le_of_ble_eq_true rfl, Nat.le_of_ble_eq_true rfl⟩) (z_preS hC hZ) rfl rfl hl.1 rfl (lv_room (Nat.le_trans (zrm2 rfl zrm0) (Nat.le_of_ble_eq_true rfl))) dX0_take_111 ⟨(show cells + 0 ≤ k by omega), (show slots + 0 ≤ n by omega)⟩) (fun r95 M H locs hw1 hZ => ?_) (fun q M H locs ci fs E T9 N9 hw hZ hc1 hM1 hb1 => False.elim hw)
            replace hw := hw1
            clear hw1
            refine W.cs (cells' := cells) (slots' := slots) rfl rfl ?_
            refine lv_l2d hx hb dX0_take_114 ?_
            obtain ⟨hnf, hw⟩ := hw
            refine lv_dmul hx hb dX0_take_115 hnf ?_
            obtain ⟨hv0, hw⟩ := hw
            refine z_rint hlt hC hZ hl.1 hv0 q1680 (Nat.le_trans zrm0 (Nat.le_of_ble_eq_true rfl)) (Nat.le_of_ble_eq_true rfl) (Nat.le_of_ble_eq_true rfl) (show cells + 0 ≤ k by omega) (show slots + 0 ≤ n by omega) dX0_take_116 (fun H locs hZ => ?_)
            refine lv_dstore (i := 6) (lv' := [(6, .double (zrint (FP.dmul r92 (FP.l2d r95)))), (5, .int r80), (0, .ref o), (1, .int a0), (2, .int a1), (3, .int a2), (4, .int a3)]) hx hb dX0_take_119 hl (by decide) rfl (fun ls hl1 => ?_)
            replace hl := hl1
            clear hl1
            refine lv_dload hx hb dX0_take_121 (lv_at hl 0 rfl) ?_
            refine lv_ldc2d hx hb hown (hts _ q1700) dX0_take_123 ?_
            refine lv_dcmp hx hb dX0_take_126 ?_
            refine lv_if_le (tgt := 152) hx hb dX0_take_127 (by decide) (fun c102 => ?_) (fun c102 => ?_)
            · replace hw := hw.1 c102
              exact wk_X0_take_L152 hG _ _ _ hk hn hZ (lv_sub hl [] rfl) hw
            · replace hw := hw.2 c102
              refine lv_dload hx hb dX0_take_130 (lv_at hl 0 rfl) ?_
              refine lv_ldc2d hx hb hown (hts _ q1701) dX0_take_132 ?_
              refine lv_dcmp hx hb dX0_take_135 ?_
              refine lv_if_ge (tgt := 152) hx hb dX0_take_136 (by decide) (fun c101 => ?_) (fun c101 => ?_)
              · replace hw := hw.1 c101
                exact wk_X0_take_L152 hG _ _ _ hk hn hZ (lv_sub hl [] rfl) hw
              · replace hw := hw.2 c101
                refine lv_aload_n hx hb dX0_take_139 rfl (lv_at hl 2 rfl) ?_
                refine lv_iload_n hx hb dX0_take_140 rfl (lv_at hl 3 rfl) ?_
                refine lv_dload hx hb dX0_take_141 (lv_at hl 0 rfl) ?_
                refine lv_d2i hx hb dX0_take_143 ?_
                refine lv_iload hx hb dX0_take_144 (lv_at hl 6 rfl) ?_
                obtain ⟨⟨ci0, fs0, hci0, hM0⟩, hw⟩ := hw
                obtain ⟨k99, n100, hk1, hn1, hw⟩ := hw
                obtain rfl : ci0 = 0 := List.mem_singleton.mp hci0
                refine z_callI hZ (vx_runV (As := [.int a0, .int (FP.d2i (zrint (FP.dmul r92 (FP.l2d r95)))), .int a3]) (rest := []) hC.fix (w_X0_decimal hlt hw) (cwV 3 hts (lw_V q1679 q1171 q1172 q67 q1173) rfl rfl rfl ⟨rfl, dd_X0_decimal⟩ ⟨Nat.le_of_ble_eq_true rfl, Nat.le_of_ble_eq_true rfl⟩) (z_preV hC hZ hM0 zc0) rfl rfl hl.1 rfl (lv_room (Nat.zero_le _)) dX0_take_146 ⟨(show cells + k99 ≤ k by omega), (show slots + n100 ≤ n by omega)⟩) (fun r98 M H locs hw1 hZ => ?_) (fun q M H locs ci fs E T9 N9 hw hZ hc1 hM1 hb1 => False.elim hw)
                replace hw := hw1
                clear hw1
                have hk : cells + k99 + (k - k99) ≤ k := by omega
                have hn : slots + n100 + (n - n100) ≤ n := by omega
                generalize cells + k99 = cells at hk ⊢
                generalize slots + n100 = slots at hn ⊢
                clear hk1 hn1
                refine lv_goto (tgt := 154) hx hb dX0_take_149 (by decide) ?_
                exact wk_X0_take_L154 hG _ _ _ _ hk hn hZ (lv_sub hl [] rfl) hw
          · replace hw := hw.2 c115
            refine z_aload hC dX0_take_52 (lv_at hl 0 rfl) ?_
            obtain ⟨hc0, hw⟩ := hw
            refine z_castAO (r := g87) (t := .long) hC hZ hc0 (Or.inl ⟨rfl, rfl⟩) rfl q1656 dX0_take_54 ?_
            refine z_astore (i := 6) (lv' := [(6, va_rf g87), (7, va_rf g87), (5, .int r80), (0, .ref o), (1, .int a0), (2, .int a1), (3, .int a2), (4, .int a3)]) hC dX0_take_57 hl (by decide) rfl (fun ls hl1 => ?_)
            replace hl := hl1
            clear hl1
            refine z_aload hC dX0_take_59 (lv_at hl 0 rfl) ?_
            refine lv_iload_n hx hb dX0_take_61 rfl (lv_at hl 6 rfl) ?_
            obtain ⟨b103, hr0, hw⟩ := hw
            subst hr0
            obtain ⟨n0, f0, hM0, hi0, hw⟩ := hw
            refine z_lald hC hZ hM0 hi0 dX0_take_62 ?_
            generalize f0 _ = v104 at hw ⊢
            refine lv_iload hx hb dX0_take_63 (lv_at hl 7 rfl) ?_
            refine z_callL hZ (vx_runS (As := [.int a3]) (rest := [.long v104]) hC.fix (w_X0_tens hlt hw) (va_cwS 1 hts (lw_S q1337 q142 q67 q143) rfl rfl rfl dd_X0_tens ⟨Nat.le_of_ble_eq_true rfl, Nat.le_of_ble_eq_true rfl⟩) (z_preS hC hZ) rfl rfl hl.1 rfl (lv_room (Nat.le_trans (zrm2 rfl zrm0) (Nat.le_of_ble_eq_true rfl))) dX0_take_65 ⟨(show cells + 0 ≤ k by omega), (show slots + 0 ≤ n by omega)⟩) (fun r105 M H locs hw1 hZ => ?_) (fun q M H locs ci fs E T9 N9 hw hZ hc1 hM1 hb1 => False.elim hw)
            replace hw := hw1
            clear hw1
            refine W.cs (cells' := cells) (slots' := slots) rfl rfl ?_
            refine lv_lmul hx hb dX0_take_68 ?_
            refine lv_lstore (i := 7) (lv' := [(7, .long (v104 * r105)), (6, .ref b103), (5, .int r80), (0, .ref o), (1, .int a0), (2, .int a1), (3, .int a2), (4, .int a3)]) hx hb dX0_take_69 hl (by decide) rfl (fun ls hl1 => ?_)
            replace hl := hl1
            clear hl1
            refine lv_lload hx hb dX0_take_71 (lv_at hl 0 rfl) ?_
            refine lv_ldc2 hx hb hown (hts _ q1677) dX0_take_73 ?_
            refine lv_ldc2 hx hb hown (hts _ q1678) dX0_take_76 ?_
            refine z_callI hZ (vx_runS (As := [.long (v104 * r105), .long (-2147483648 : Int64), .long (2147483647 : Int64)]) (rest := []) hC.fix (w_X0_in hlt hw) (va_cwS 3 hts (lw_S q434 q435 q67 q436) rfl rfl rfl dd_X0_in ⟨Nat.le_of_ble_eq_true rfl, Nat.le_of_ble_eq_true rfl⟩) (z_preS hC hZ) rfl rfl hl.1 rfl (lv_room (Nat.zero_le _)) dX0_take_79 ⟨(show cells + 0 ≤ k by omega), (show slots + 0 ≤ n by omega)⟩) (fun r108 M H locs hw1 hZ => ?_) (fun q M H locs ci fs E T9 N9 hw hZ hc1 hM1 hb1 => False.elim hw)
            replace hw := hw1
            clear hw1
            refine W.cs (cells' := cells) (slots' := slots) rfl rfl ?_
            refine lv_if_ne (tgt := 88) hx hb dX0_take_82 (by decide) (fun c114 => ?_) (fun c114 => ?_)
            · replace hw := hw.1 c114
              refine lv_aload_n hx hb dX0_take_88 rfl (lv_at hl 3 rfl) ?_
              refine lv_iload_n hx hb dX0_take_89 rfl (lv_at hl 4 rfl) ?_
              refine lv_lload hx hb dX0_take_90 (lv_at hl 0 rfl) ?_
              refine lv_l2i hx hb dX0_take_92 rfl ?_
              refine lv_iload hx hb dX0_take_93 (lv_at hl 7 rfl) ?_
              obtain ⟨⟨ci0, fs0, hci0, hM0⟩, hw⟩ := hw
              obtain ⟨k112, n113, hk1, hn1, hw⟩ := hw
              obtain rfl : ci0 = 0 := List.mem_singleton.mp hci0
              refine z_callI hZ (vx_runV (As := [.int a0, .int ((v104 * r105).toInt32), .int a3]) (rest := []) hC.fix (w_X0_decimal hlt hw) (cwV 3 hts (lw_V q1679 q1171 q1172 q67 q1173) rfl rfl rfl ⟨rfl, dd_X0_decimal⟩ ⟨Nat.le_of_ble_eq_true rfl, Nat.le_of_ble_eq_true rfl⟩) (z_preV hC hZ hM0 zc0) rfl rfl hl.1 rfl (lv_room (Nat.zero_le _)) dX0_take_95 ⟨(show cells + k112 ≤ k by omega), (show slots + n113 ≤ n by omega)⟩) (fun r111 M H locs hw1 hZ => ?_) (fun q M H locs ci fs E T9 N9 hw hZ hc1 hM1 hb1 => False.elim hw)
              replace hw := hw1
              clear hw1
              have hk : cells + k112 + (k - k112) ≤ k := by omega
              have hn : slots + n113 + (n - n113) ≤ n := by omega
              generalize cells + k112 = cells at hk ⊢
              generalize slots + n113 = slots at hn ⊢
              clear hk1 hn1
              exact z_iret hG hZ (by omega) (by omega) hw dX0_take_98
            · replace hw := hw.2 c114
              refine lv_bipush (v := (-4)) hx hb dX0_take_85 (by decide) ?_
              exact z_iret hG hZ (by omega) (by omega) hw dX0_take_87
        · refine z_instANO (r := g87) (t1 := .float) (t2 := .double) hC hZ hc0 (Or.inr (Or.inl ⟨rfl, rfl⟩)) (Or.inr (Or.inr ⟨rfl, rfl⟩)) (by decide) (by decide) q1656 dX0_take_46 ?_
          refine lv_if_eq (tgt := 99) hx hb dX0_take_49 (by decide) (fun c143 => ?_) (fun c143 => ?_)
          · replace hw := hw.1 c143
            refine lv_aload_n hx hb dX0_take_99 rfl (lv_at hl 2 rfl) ?_
            obtain ⟨fs0, g116, hM0, hx0, hw⟩ := hw
            refine z_get hC hZ hM0 zc0 7 (by decide) q408 (fun _ h9 => h9) hx0 dX0_take_100 ?_
            refine lv_iload_n hx hb dX0_take_103 rfl (lv_at hl 4 rfl) ?_
            obtain ⟨b117, hr0, hw⟩ := hw
            subst hr0
            obtain ⟨n0, f0, v118, hM0, hi0, hr0, hw⟩ := hw
            refine z_aald hC hZ hM0 (by decide) rfl hi0 hr0 dX0_take_104 ?_
            refine lv_iload_n hx hb dX0_take_105 rfl (lv_at hl 5 rfl) ?_
            obtain ⟨b119, hr0, hw⟩ := hw
            subst hr0
            obtain ⟨⟨ci0, fs0, hci0, hM0⟩, hw⟩ := hw
            obtain rfl : ci0 = 7 := List.mem_singleton.mp hci0
            refine z_callD hZ (vx_runV (As := [.int a2]) (rest := []) hC.fix (w_X8_number hlt hw) (cwV 1 hts (lw_V q1667 q1668 q1669 q82 q1670) rfl rfl rfl ⟨rfl, dd_X8_number⟩ ⟨Nat.le_of_ble_eq_true rfl, Nat.le_of_ble_eq_true rfl⟩) (z_preV hC hZ hM0 zc7) rfl rfl hl.1 rfl (lv_room (Nat.zero_le _)) dX0_take_106 ⟨(show cells + 0 ≤ k by omega), (show slots + 0 ≤ n by omega)⟩) (fun r120 M H locs hw1 hZ => ?_) (fun q M H locs ci fs E T9 N9 hw hZ hc1 hM1 hb1 => False.elim hw)
            replace hw := hw1
            clear hw1
            refine W.cs (cells' := cells) (slots' := slots) rfl rfl ?_
            refine lv_iload hx hb dX0_take_109 (lv_at hl 6 rfl) ?_
            refine z_callL hZ (vx_runS (As := [.int a3]) (rest := [.double r120]) hC.fix (w_X0_tens hlt hw) (va_cwS 1 hts (lw_S q1337 q142 q67 q143) rfl rfl rfl dd_X0_tens ⟨Nat.le_of_ble_eq_true rfl, Nat.le_of_ble_eq_true rfl⟩) (z_preS hC hZ) rfl rfl hl.1 rfl (lv_room (Nat.le_trans (zrm2 rfl zrm0) (Nat.le_of_ble_eq_true rfl))) dX0_take_111 ⟨(show cells + 0 ≤ k by omega), (show slots + 0 ≤ n by omega)⟩) (fun r123 M H locs hw1 hZ => ?_) (fun q M H locs ci fs E T9 N9 hw hZ hc1 hM1 hb1 => False.elim hw)
            replace hw := hw1
            clear hw1
            refine W.cs (cells' := cells) (slots' := slots) rfl rfl ?_
            refine lv_l2d hx hb dX0_take_114 ?_
            obtain ⟨hnf, hw⟩ := hw
            refine lv_dmul hx hb dX0_take_115 hnf ?_
            obtain ⟨hv0, hw⟩ := hw
            refine z_rint hlt hC hZ hl.1 hv0 q1680 (Nat.le_trans zrm0 (Nat.le_of_ble_eq_true rfl)) (Nat.le_of_ble_eq_true rfl) (Nat.le_of_ble_eq_true rfl) (show cells + 0 ≤ k by omega) (show slots + 0 ≤ n by omega) dX0_take_116 (fun H locs hZ => ?_)
            refine lv_dstore (i := 6) (lv' := [(6, .double (zrint (FP.dmul r120 (FP.l2d r123)))), (5, .int r80), (0, .ref o), (1, .int a0), (2, .int a1), (3, .int a2), (4, .int a3)]) hx hb dX0_take_119 hl (by decide) rfl (fun ls hl1 => ?_)
            replace hl := hl1
            clear hl1
            refine lv_dload hx hb dX0_take_121 (lv_at hl 0 rfl) ?_
            refine lv_ldc2d hx hb hown (hts _ q1700) dX0_take_123 ?_
            refine lv_dcmp hx hb dX0_take_126 ?_
            refine lv_if_le (tgt := 152) hx hb dX0_take_127 (by decide) (fun c130 => ?_) (fun c130 => ?_)
            · replace hw := hw.1 c130
              exact wk_X0_take_L152 hG _ _ _ hk hn hZ (lv_sub hl [] rfl) hw
            · replace hw := hw.2 c130
              refine lv_dload hx hb dX0_take_130 (lv_at hl 0 rfl) ?_
              refine lv_ldc2d hx hb hown (hts _ q1701) dX0_take_132 ?_
              refine lv_dcmp hx hb dX0_take_135 ?_
              refine lv_if_ge (tgt := 152) hx hb dX0_take_136 (by decide) (fun c129 => ?_) (fun c129 => ?_)
              · replace hw := hw.1 c129
                exact wk_X0_take_L152 hG _ _ _ hk hn hZ (lv_sub hl [] rfl) hw
              · replace hw := hw.2 c129
                refine lv_aload_n hx hb dX0_take_139 rfl (lv_at hl 2 rfl) ?_
                refine lv_iload_n hx hb dX0_take_140 rfl (lv_at hl 3 rfl) ?_
                refine lv_dload hx hb dX0_take_141 (lv_at hl 0 rfl) ?_
                refine lv_d2i hx hb dX0_take_143 ?_
                refine lv_iload hx hb dX0_take_144 (lv_at hl 6 rfl) ?_
                obtain ⟨⟨ci0, fs0, hci0, hM0⟩, hw⟩ := hw
                obtain ⟨k127, n128, hk1, hn1, hw⟩ := hw
                obtain rfl : ci0 = 0 := List.mem_singleton.mp hci0
                refine z_callI hZ (vx_runV (As := [.int a0, .int (FP.d2i (zrint (FP.dmul r120 (FP.l2d r123)))), .int a3]) (rest := []) hC.fix (w_X0_decimal hlt hw) (cwV 3 hts (lw_V q1679 q1171 q1172 q67 q1173) rfl rfl rfl ⟨rfl, dd_X0_decimal⟩ ⟨Nat.le_of_ble_eq_true rfl, Nat.le_of_ble_eq_true rfl⟩) (z_preV hC hZ hM0 zc0) rfl rfl hl.1 rfl (lv_room (Nat.zero_le _)) dX0_take_146 ⟨(show cells + k127 ≤ k by omega), (show slots + n128 ≤ n by omega)⟩) (fun r126 M H locs hw1 hZ => ?_) (fun q M H locs ci fs E T9 N9 hw hZ hc1 hM1 hb1 => False.elim hw)
                replace hw := hw1
                clear hw1
                have hk : cells + k127 + (k - k127) ≤ k := by omega
                have hn : slots + n128 + (n - n128) ≤ n := by omega
                generalize cells + k127 = cells at hk ⊢
                generalize slots + n128 = slots at hn ⊢
                clear hk1 hn1
                refine lv_goto (tgt := 154) hx hb dX0_take_149 (by decide) ?_
                exact wk_X0_take_L154 hG _ _ _ _ hk hn hZ (lv_sub hl [] rfl) hw
          · replace hw := hw.2 c143
            refine z_aload hC dX0_take_52 (lv_at hl 0 rfl) ?_
            obtain ⟨hc0, hw⟩ := hw
            refine z_castAO (r := g87) (t := .long) hC hZ hc0 (Or.inl ⟨rfl, rfl⟩) rfl q1656 dX0_take_54 ?_
            refine z_astore (i := 6) (lv' := [(6, va_rf g87), (7, va_rf g87), (5, .int r80), (0, .ref o), (1, .int a0), (2, .int a1), (3, .int a2), (4, .int a3)]) hC dX0_take_57 hl (by decide) rfl (fun ls hl1 => ?_)
            replace hl := hl1
            clear hl1
            refine z_aload hC dX0_take_59 (lv_at hl 0 rfl) ?_
            refine lv_iload_n hx hb dX0_take_61 rfl (lv_at hl 6 rfl) ?_
            obtain ⟨b131, hr0, hw⟩ := hw
            subst hr0
            obtain ⟨n0, f0, hM0, hi0, hw⟩ := hw
            refine z_lald hC hZ hM0 hi0 dX0_take_62 ?_
            generalize f0 _ = v132 at hw ⊢
            refine lv_iload hx hb dX0_take_63 (lv_at hl 7 rfl) ?_
            refine z_callL hZ (vx_runS (As := [.int a3]) (rest := [.long v132]) hC.fix (w_X0_tens hlt hw) (va_cwS 1 hts (lw_S q1337 q142 q67 q143) rfl rfl rfl dd_X0_tens ⟨Nat.le_of_ble_eq_true rfl, Nat.le_of_ble_eq_true rfl⟩) (z_preS hC hZ) rfl rfl hl.1 rfl (lv_room (Nat.le_trans (zrm2 rfl zrm0) (Nat.le_of_ble_eq_true rfl))) dX0_take_65 ⟨(show cells + 0 ≤ k by omega), (show slots + 0 ≤ n by omega)⟩) (fun r133 M H locs hw1 hZ => ?_) (fun q M H locs ci fs E T9 N9 hw hZ hc1 hM1 hb1 => False.elim hw)
            replace hw := hw1
            clear hw1
            refine W.cs (cells' := cells) (slots' := slots) rfl rfl ?_
            refine lv_lmul hx hb dX0_take_68 ?_
            refine lv_lstore (i := 7) (lv' := [(7, .long (v132 * r133)), (6, .ref b131), (5, .int r80), (0, .ref o), (1, .int a0), (2, .int a1), (3, .int a2), (4, .int a3)]) hx hb dX0_take_69 hl (by decide) rfl (fun ls hl1 => ?_)
            replace hl := hl1
            clear hl1
            refine lv_lload hx hb dX0_take_71 (lv_at hl 0 rfl) ?_
            refine lv_ldc2 hx hb hown (hts _ q1677) dX0_take_73 ?_
            refine lv_ldc2 hx hb hown (hts _ q1678) dX0_take_76 ?_
            refine z_callI hZ (vx_runS (As := [.long (v132 * r133), .long (-2147483648 : Int64), .long (2147483647 : Int64)]) (rest := []) hC.fix (w_X0_in hlt hw) (va_cwS 3 hts (lw_S q434 q435 q67 q436) rfl rfl rfl dd_X0_in ⟨Nat.le_of_ble_eq_true rfl, Nat.le_of_ble_eq_true rfl⟩) (z_preS hC hZ) rfl rfl hl.1 rfl (lv_room (Nat.zero_le _)) dX0_take_79 ⟨(show cells + 0 ≤ k by omega), (show slots + 0 ≤ n by omega)⟩) (fun r136 M H locs hw1 hZ => ?_) (fun q M H locs ci fs E T9 N9 hw hZ hc1 hM1 hb1 => False.elim hw)
            replace hw := hw1
            clear hw1
            refine W.cs (cells' := cells) (slots' := slots) rfl rfl ?_
            refine lv_if_ne (tgt := 88) hx hb dX0_take_82 (by decide) (fun c142 => ?_) (fun c142 => ?_)
            · replace hw := hw.1 c142
              refine lv_aload_n hx hb dX0_take_88 rfl (lv_at hl 3 rfl) ?_
              refine lv_iload_n hx hb dX0_take_89 rfl (lv_at hl 4 rfl) ?_
              refine lv_lload hx hb dX0_take_90 (lv_at hl 0 rfl) ?_
              refine lv_l2i hx hb dX0_take_92 rfl ?_
              refine lv_iload hx hb dX0_take_93 (lv_at hl 7 rfl) ?_
              obtain ⟨⟨ci0, fs0, hci0, hM0⟩, hw⟩ := hw
              obtain ⟨k140, n141, hk1, hn1, hw⟩ := hw
              obtain rfl : ci0 = 0 := List.mem_singleton.mp hci0
              refine z_callI hZ (vx_runV (As := [.int a0, .int ((v132 * r133).toInt32), .int a3]) (rest := []) hC.fix (w_X0_decimal hlt hw) (cwV 3 hts (lw_V q1679 q1171 q1172 q67 q1173) rfl rfl rfl ⟨rfl, dd_X0_decimal⟩ ⟨Nat.le_of_ble_eq_true rfl, Nat.le_of_ble_eq_true rfl⟩) (z_preV hC hZ hM0 zc0) rfl rfl hl.1 rfl (lv_room (Nat.zero_le _)) dX0_take_95 ⟨(show cells + k140 ≤ k by omega), (show slots + n141 ≤ n by omega)⟩) (fun r139 M H locs hw1 hZ => ?_) (fun q M H locs ci fs E T9 N9 hw hZ hc1 hM1 hb1 => False.elim hw)
              replace hw := hw1
              clear hw1
              have hk : cells + k140 + (k - k140) ≤ k := by omega
              have hn : slots + n141 + (n - n141) ≤ n := by omega
              generalize cells + k140 = cells at hk ⊢
              generalize slots + n141 = slots at hn ⊢
              clear hk1 hn1
              exact z_iret hG hZ (by omega) (by omega) hw dX0_take_98
            · replace hw := hw.2 c142
              refine lv_bipush (v := (-4)) hx hb dX0_take_85 (by decide) ?_
              exact z_iret hG hZ (by omega) (by omega) hw dX0_take_87
      · replace hw := hw.2 c144
        refine lv_iload hx hb dX0_take_30 (lv_at hl 0 rfl) ?_
        exact z_iret hG hZ (by omega) (by omega) hw dX0_take_32
    · replace hw := hw.2 c145
      exact wk_X0_take_L15 hG _ _ _ hk hn hZ (lv_sub hl [] rfl) hw
abbrev rm_X9_take : Room := { frames := 8, cells := 0, slots := 0, locals := 1400 }
def wp_X9_take_L27 (D : zD) (post : Int32 → zM → Prop) (o : Nat) (M : zM) : Prop :=
    post (-1 : Int32) M
set_option maxHeartbeats 4000000 in
set_option maxRecDepth 100000 in
theorem wk_X9_take_L27 {p : Program} {l : Launch} {e : Env} {s : State} {m : MethodId} {args : Array Value} {below : List Frame} {meth : Method} {c : Code} {D : zD} {post : Int32 → zM → Prop} {o : Nat} (hG : zGx p l s m args meth c cX9_take 10 "PluralBranchesModel" D (some .int) "take" []) : ∀ {H : Heap} {locs : List Loc} {cells slots : Nat} {ls : Array Slot} (M : zM), cells ≤ 0 → slots ≤ 0 → zS D M H locs → lv_has ls 10 [] → wp_X9_take_L27 D post o M → W p l e rm_X9_take s m args below meth c H locs cells slots (vx_MQ below (zQ D zI post) (zX D (fun _ _ => False)) args s 0 0 (zA D)) (F0 m 27 ls []) := by
  have hC := hG.1
  have hx := hC.x
  have hb := hC.b
  have hown := hC.o
  have hts := hC.ts
  have hlt := hG.2.2.2.2.2
  intro H locs cells slots ls M hk hn hZ hl hw
  refine lv_iconst (v := (-1)) hx hb dX9_take_27 (by decide) ?_
  exact z_iret hG hZ hk hn hw dX9_take_28
def wp_X9_take_L171 (D : zD) (post : Int32 → zM → Prop) (o : Nat) (M : zM) : Prop :=
    post (-4 : Int32) M
set_option maxHeartbeats 4000000 in
set_option maxRecDepth 100000 in
theorem wk_X9_take_L171 {p : Program} {l : Launch} {e : Env} {s : State} {m : MethodId} {args : Array Value} {below : List Frame} {meth : Method} {c : Code} {D : zD} {post : Int32 → zM → Prop} {o : Nat} (hG : zGx p l s m args meth c cX9_take 10 "PluralBranchesModel" D (some .int) "take" []) : ∀ {H : Heap} {locs : List Loc} {cells slots : Nat} {ls : Array Slot} (M : zM), cells ≤ 0 → slots ≤ 0 → zS D M H locs → lv_has ls 10 [] → wp_X9_take_L171 D post o M → W p l e rm_X9_take s m args below meth c H locs cells slots (vx_MQ below (zQ D zI post) (zX D (fun _ _ => False)) args s 0 0 (zA D)) (F0 m 171 ls []) := by
  have hC := hG.1
  have hx := hC.x
  have hb := hC.b
  have hown := hC.o
  have hts := hC.ts
  have hlt := hG.2.2.2.2.2
  intro H locs cells slots ls M hk hn hZ hl hw
  refine lv_bipush (v := (-4)) hx hb dX9_take_171 (by decide) ?_
  exact z_iret hG hZ hk hn hw dX9_take_173
def wp_X9_take_L137 (D : zD) (post : Int32 → zM → Prop) (o : Nat) (x1 : Int32) (x4 : Int32) (y0 : UInt64) (M : zM) : Prop :=
    (wp_X9_tens D (fun r1 M => (vf_n64 (FP.dmul y0 (FP.l2d r1)) ∧ (zrintok (FP.dmul y0 (FP.l2d r1)) ∧ (((Op.cmpValue (FP.dcmp (zrint (FP.dmul y0 (FP.l2d r1))) (13970166044105375744 : UInt64)) .l) ≤ 0 → wp_X9_take_L171 D post o M) ∧ (¬ (Op.cmpValue (FP.dcmp (zrint (FP.dmul y0 (FP.l2d r1))) (13970166044105375744 : UInt64)) .l) ≤ 0 → (((Op.cmpValue (FP.dcmp (zrint (FP.dmul y0 (FP.l2d r1))) (4746794007248502784 : UInt64)) .g) < 0 → ((zis M o [8] ∧ wp_X9_holdsNow D (fun _ M => post (1 : Int32) M) o x1 (1 : Int32) (FP.d2i (zrint (FP.dmul y0 (FP.l2d r1)))) x4 M))) ∧ (¬ (Op.cmpValue (FP.dcmp (zrint (FP.dmul y0 (FP.l2d r1))) (4746794007248502784 : UInt64)) .g) < 0 → wp_X9_take_L171 D post o M))))))) x4 M)
set_option maxHeartbeats 4000000 in
set_option maxRecDepth 100000 in
theorem wk_X9_take_L137 {p : Program} {l : Launch} {e : Env} {s : State} {m : MethodId} {args : Array Value} {below : List Frame} {meth : Method} {c : Code} {D : zD} {post : Int32 → zM → Prop} {o : Nat} (hG : zGx p l s m args meth c cX9_take 10 "PluralBranchesModel" D (some .int) "take" []) : ∀ {H : Heap} {locs : List Loc} {cells slots : Nat} {ls : Array Slot} (x1 : Int32) (x4 : Int32) (y0 : UInt64) (M : zM), cells ≤ 0 → slots ≤ 0 → zS D M H locs → lv_has ls 10 [(0, .ref o), (1, .int x1), (4, .int x4)] → wp_X9_take_L137 D post o x1 x4 y0 M → W p l e rm_X9_take s m args below meth c H locs cells slots (vx_MQ below (zQ D zI post) (zX D (fun _ _ => False)) args s 0 0 (zA D)) (F0 m 137 ls [.double y0]) := by
  have hC := hG.1
  have hx := hC.x
  have hb := hC.b
  have hown := hC.o
  have hts := hC.ts
  have hlt := hG.2.2.2.2.2
  intro H locs cells slots ls x1 x4 y0 M hk hn hZ hl hw
  refine lv_dstore (i := 6) (lv' := [(6, .double y0), (0, .ref o), (1, .int x1), (4, .int x4)]) hx hb dX9_take_137 hl (by decide) rfl (fun ls hl1 => ?_)
  replace hl := hl1
  clear hl1
  refine lv_dload hx hb dX9_take_139 (lv_at hl 0 rfl) ?_
  refine lv_iload hx hb dX9_take_141 (lv_at hl 3 rfl) ?_
  refine z_callL hZ (vx_runS (As := [.int x4]) (rest := [.double y0]) hC.fix (w_X9_tens hlt hw) (va_cwS 1 hts (lw_S q1901 q1902 q83 q1903) rfl rfl rfl dd_X9_tens ⟨Nat.le_of_ble_eq_true rfl, Nat.le_of_ble_eq_true rfl⟩) (z_preS hC hZ) rfl rfl hl.1 rfl (lv_room (Nat.le_trans (zrm2 rfl zrm0) (Nat.le_of_ble_eq_true rfl))) dX9_take_143 ⟨hk, hn⟩) (fun r9 M H locs hw1 hZ => ?_) (fun q M H locs ci fs E T9 N9 hw hZ hc1 hM1 hb1 => False.elim hw)
  replace hw := hw1
  clear hw1
  refine W.cs (cells' := cells) (slots' := slots) rfl rfl ?_
  refine lv_l2d hx hb dX9_take_146 ?_
  obtain ⟨hnf, hw⟩ := hw
  refine lv_dmul hx hb dX9_take_147 hnf ?_
  obtain ⟨hv0, hw⟩ := hw
  refine z_rint hlt hC hZ hl.1 hv0 q2240 (Nat.le_trans zrm0 (Nat.le_of_ble_eq_true rfl)) (Nat.le_of_ble_eq_true rfl) (Nat.le_of_ble_eq_true rfl) hk hn dX9_take_148 (fun H locs hZ => ?_)
  refine lv_dstore (i := 8) (lv' := [(8, .double (zrint (FP.dmul y0 (FP.l2d r9)))), (6, .double y0), (0, .ref o), (1, .int x1), (4, .int x4)]) hx hb dX9_take_151 hl (by decide) rfl (fun ls hl1 => ?_)
  replace hl := hl1
  clear hl1
  refine lv_dload hx hb dX9_take_153 (lv_at hl 0 rfl) ?_
  refine lv_ldc2d hx hb hown (hts _ q2241) dX9_take_155 ?_
  refine lv_dcmp hx hb dX9_take_158 ?_
  refine lv_if_le (tgt := 171) hx hb dX9_take_159 (by decide) (fun c16 => ?_) (fun c16 => ?_)
  · replace hw := hw.1 c16
    exact wk_X9_take_L171 hG _ hk hn hZ (lv_sub hl [] rfl) hw
  · replace hw := hw.2 c16
    refine lv_dload hx hb dX9_take_162 (lv_at hl 0 rfl) ?_
    refine lv_ldc2d hx hb hown (hts _ q2242) dX9_take_164 ?_
    refine lv_dcmp hx hb dX9_take_167 ?_
    refine lv_if_lt (tgt := 174) hx hb dX9_take_168 (by decide) (fun c15 => ?_) (fun c15 => ?_)
    · replace hw := hw.1 c15
      refine lv_aload_n hx hb dX9_take_174 rfl (lv_at hl 2 rfl) ?_
      refine lv_iload_n hx hb dX9_take_175 rfl (lv_at hl 3 rfl) ?_
      refine lv_iconst (v := 1) hx hb dX9_take_176 (by decide) ?_
      refine lv_dload hx hb dX9_take_177 (lv_at hl 0 rfl) ?_
      refine lv_d2i hx hb dX9_take_179 ?_
      refine lv_iload hx hb dX9_take_180 (lv_at hl 4 rfl) ?_
      obtain ⟨⟨ci0, fs0, hci0, hM0⟩, hw⟩ := hw
      obtain rfl : ci0 = 8 := List.mem_singleton.mp hci0
      refine z_callU hZ (vx_runV (As := [.int x1, .int (1 : Int32), .int (FP.d2i (zrint (FP.dmul y0 (FP.l2d r9)))), .int x4]) (rest := []) hC.fix (w_X9_holdsNow hlt hw) (cwV 4 hts (lw_V q2081 q2083 qs48 q83 q2084) rfl rfl rfl ⟨rfl, dd_X9_holdsNow⟩ ⟨Nat.le_of_ble_eq_true rfl, Nat.le_of_ble_eq_true rfl⟩) (z_preV hC hZ hM0 zc8) rfl rfl hl.1 rfl (lv_room (Nat.zero_le _)) dX9_take_182 ⟨hk, hn⟩) (fun r12 M H locs hw1 hZ => ?_) (fun q M H locs ci fs E T9 N9 hw hZ hc1 hM1 hb1 => False.elim hw)
      replace hw := hw1
      clear hw1
      refine W.cs (cells' := cells) (slots' := slots) rfl rfl ?_
      refine lv_iconst (v := 1) hx hb dX9_take_185 (by decide) ?_
      exact z_iret hG hZ hk hn hw dX9_take_186
    · replace hw := hw.2 c15
      exact wk_X9_take_L171 hG _ hk hn hZ (lv_sub hl [] rfl) hw
def wp_X9_take (D : zD) (post : Int32 → zM → Prop) (o : Nat) (a0 : Int32) (a1 : Int32) (a2 : Int32) (a3 : Int32) (M : zM) : Prop :=
    (wp_X9_isArgument D (fun r17 M => ((r17 = 0 → wp_X9_take_L27 D post o M) ∧ (¬ r17 = 0 → (wp_X9_isRow D (fun r20 M => ((r20 = 0 → wp_X9_take_L27 D post o M) ∧ (¬ r20 = 0 → (wp_X9_in D (fun r23 M => ((¬ r23 = 0 → (zgR M o 8 51 fun g26 => ((zd g26 fun b27 => zaI M b27 0 a1 fun v28 => ((0 ≤ v28 → ((zis M o [8] ∧ wp_X9_isThere D (fun r29 M => ((¬ r29 = 0 → (zgR M o 8 52 fun g32 => ((zd g32 fun b33 => zaI M b33 0 a1 fun v34 => ((¬ v34 = (2 : Int32) → (zgR M o 8 52 fun g35 => ((zd g35 fun b36 => zaI M b36 0 a1 fun v37 => ((¬ v37 = 0 → (zgR M o 8 54 fun g38 => ((zd g38 fun b39 => zaD M b39 (((30 : Int32) * a1) + a2) fun v40 => wp_X9_take_L137 D post o a0 a3 v40 M)))) ∧ (v37 = 0 → (zgR M o 8 53 fun g41 => ((zd g41 fun b42 => zaF M b42 (((30 : Int32) * a1) + a2) fun v43 => (vf_n64 (FP.f2d v43) ∧ wp_X9_take_L137 D post o a0 a3 (FP.f2d v43) M)))))))))) ∧ (v34 = (2 : Int32) → (zgR M o 8 55 fun g45 => ((zd g45 fun b46 => zaL M b46 (((30 : Int32) * a1) + a2) fun v47 => (wp_X9_tens D (fun r48 M => (wp_X9_isInt D (fun r51 M => ((¬ r51 = 0 → ((zis M o [8] ∧ wp_X9_holdsNow D (fun _ M => post (1 : Int32) M) o a0 (1 : Int32) ((v47 * r48).toInt32) a3 M))) ∧ (r51 = 0 → post (-4 : Int32) M))) (v47 * r48) M)) a3 M)))))))))) ∧ (r29 = 0 → post (-12 : Int32) M))) o a1 a2 M))) ∧ (¬ 0 ≤ v28 → post (-11 : Int32) M)))))) ∧ (r23 = 0 → wp_X9_take_L27 D post o M))) (a3.toInt64) (0 : Int64) (6 : Int64) M)))) a1 M)))) a0 M)
set_option maxHeartbeats 4000000 in
set_option maxRecDepth 100000 in
theorem w_X9_take {l : Launch} {D : zD} {post : Int32 → zM → Prop} (hlt : l.stackTraces = false) {o : Nat} {a0 : Int32} {a1 : Int32} {a2 : Int32} {a3 : Int32} {M : zM} (hw : wp_X9_take D post o a0 a1 a2 a3 M) : zMet l D yX9_take (ws_ yX9_take cX9_take 10 (some .int)) rm_X9_take 0 0 [.ref o, .int a0, .int a1, .int a2, .int a3] M zI post (fun _ _ => False) := by
  unfold wp_X9_take at hw
  have hlv : lv_args 0 [.ref o, .int a0, .int a1, .int a2, .int a3] = [(0, .ref o), (1, .int a0), (2, .int a1), (3, .int a2), (4, .int a3)] := (zargs1 rfl (zargs1 rfl (zargs1 rfl (zargs1 rfl (zargs1 rfl rfl)))))
  refine z_ofW hlt (by decide) (Nat.le_trans (zsl1 rfl (zsl1 rfl (zsl1 rfl (zsl1 rfl (zsl1 rfl (Nat.le_refl 0 : (lg_sl []).length ≤ 0)))))) (Nat.le_of_ble_eq_true rfl)) hlv ?_
  intro p e s m args below meth c ls hG hZ hl
  have hC := hG.1
  have hx := hC.x
  have hb := hC.b
  have hown := hC.o
  have hts := hC.ts
  have hlt := hG.2.2.2.2.2
  obtain ⟨cells, hce⟩ : ∃ z : Nat, z = 0 := ⟨0, rfl⟩
  obtain ⟨slots, hsl⟩ : ∃ z : Nat, z = 0 := ⟨0, rfl⟩
  refine W.cs (cells' := cells) (slots' := slots) hce.symm hsl.symm ?_
  have hk : cells ≤ 0 := Nat.le_of_eq hce
  have hn : slots ≤ 0 := Nat.le_of_eq hsl
  clear hce hsl
  refine lv_iload_n hx hb dX9_take_0 rfl (lv_at hl 1 rfl) ?_
  refine z_callI hZ (vx_runS (As := [.int a0]) (rest := []) hC.fix (w_X9_isArgument hlt hw) (va_cwS 1 hts (lw_S q2030 q2031 q83 q2032) rfl rfl rfl dd_X9_isArgument ⟨Nat.le_of_ble_eq_true rfl, Nat.le_of_ble_eq_true rfl⟩) (z_preS hC hZ) rfl rfl hl.1 rfl (lv_room (Nat.zero_le _)) dX9_take_1 ⟨hk, hn⟩) (fun r64 M H locs hw1 hZ => ?_) (fun q M H locs ci fs E T9 N9 hw hZ hc1 hM1 hb1 => False.elim hw)
  replace hw := hw1
  clear hw1
  refine W.cs (cells' := cells) (slots' := slots) rfl rfl ?_
  refine lv_if_eq (tgt := 27) hx hb dX9_take_4 (by decide) (fun c110 => ?_) (fun c110 => ?_)
  · replace hw := hw.1 c110
    exact wk_X9_take_L27 hG _ hk hn hZ (lv_sub hl [] rfl) hw
  · replace hw := hw.2 c110
    refine lv_iload_n hx hb dX9_take_7 rfl (lv_at hl 2 rfl) ?_
    refine z_callI hZ (vx_runS (As := [.int a1]) (rest := []) hC.fix (w_X9_isRow hlt hw) (va_cwS 1 hts (lw_S q2214 q2215 q83 q2216) rfl rfl rfl dd_X9_isRow ⟨Nat.le_of_ble_eq_true rfl, Nat.le_of_ble_eq_true rfl⟩) (z_preS hC hZ) rfl rfl hl.1 rfl (lv_room (Nat.zero_le _)) dX9_take_8 ⟨hk, hn⟩) (fun r67 M H locs hw1 hZ => ?_) (fun q M H locs ci fs E T9 N9 hw hZ hc1 hM1 hb1 => False.elim hw)
    replace hw := hw1
    clear hw1
    refine W.cs (cells' := cells) (slots' := slots) rfl rfl ?_
    refine lv_if_eq (tgt := 27) hx hb dX9_take_11 (by decide) (fun c109 => ?_) (fun c109 => ?_)
    · replace hw := hw.1 c109
      exact wk_X9_take_L27 hG _ hk hn hZ (lv_sub hl [] rfl) hw
    · replace hw := hw.2 c109
      refine lv_iload hx hb dX9_take_14 (lv_at hl 4 rfl) ?_
      refine lv_i2l hx hb dX9_take_16 rfl ?_
      refine lv_lconst (v := 0) hx hb dX9_take_17 (by decide) ?_
      refine lv_ldc2 hx hb hown (hts _ q1893) dX9_take_18 ?_
      refine z_callI hZ (vx_runS (As := [.long (a3.toInt64), .long (0 : Int64), .long (6 : Int64)]) (rest := []) hC.fix (w_X9_in hlt hw) (va_cwS 3 hts (lw_S q1894 q1895 q83 q1896) rfl rfl rfl dd_X9_in ⟨Nat.le_of_ble_eq_true rfl, Nat.le_of_ble_eq_true rfl⟩) (z_preS hC hZ) rfl rfl hl.1 rfl (lv_room (Nat.zero_le _)) dX9_take_21 ⟨hk, hn⟩) (fun r70 M H locs hw1 hZ => ?_) (fun q M H locs ci fs E T9 N9 hw hZ hc1 hM1 hb1 => False.elim hw)
      replace hw := hw1
      clear hw1
      refine W.cs (cells' := cells) (slots' := slots) rfl rfl ?_
      refine lv_if_ne (tgt := 29) hx hb dX9_take_24 (by decide) (fun c108 => ?_) (fun c108 => ?_)
      · replace hw := hw.1 c108
        refine lv_aload_n hx hb dX9_take_29 rfl (lv_at hl 0 rfl) ?_
        obtain ⟨fs0, g73, hM0, hx0, hw⟩ := hw
        refine z_get hC hZ hM0 zc8 51 (by decide) q1771 (fun _ h9 => h9) hx0 dX9_take_30 ?_
        refine lv_iload_n hx hb dX9_take_33 rfl (lv_at hl 2 rfl) ?_
        obtain ⟨b74, hr0, hw⟩ := hw
        subst hr0
        obtain ⟨n0, f0, hM0, hi0, hw⟩ := hw
        refine z_iald hC hZ hM0 hi0 dX9_take_34 ?_
        generalize f0 _ = v75 at hw ⊢
        refine lv_if_ge (tgt := 41) hx hb dX9_take_35 (by decide) (fun c107 => ?_) (fun c107 => ?_)
        · replace hw := hw.1 c107
          refine lv_aload_n hx hb dX9_take_41 rfl (lv_at hl 0 rfl) ?_
          refine lv_iload_n hx hb dX9_take_42 rfl (lv_at hl 2 rfl) ?_
          refine lv_iload_n hx hb dX9_take_43 rfl (lv_at hl 3 rfl) ?_
          obtain ⟨⟨ci0, fs0, hci0, hM0⟩, hw⟩ := hw
          obtain rfl : ci0 = 8 := List.mem_singleton.mp hci0
          refine z_callI hZ (vx_runV (As := [.int a1, .int a2]) (rest := []) hC.fix (w_X9_isThere hlt hw) (cwV 2 hts (lw_V q2222 q2224 qs65 q83 q2225) rfl rfl rfl ⟨rfl, dd_X9_isThere⟩ ⟨Nat.le_of_ble_eq_true rfl, Nat.le_of_ble_eq_true rfl⟩) (z_preV hC hZ hM0 zc8) rfl rfl hl.1 rfl (lv_room (Nat.zero_le _)) dX9_take_44 ⟨hk, hn⟩) (fun r76 M H locs hw1 hZ => ?_) (fun q M H locs ci fs E T9 N9 hw hZ hc1 hM1 hb1 => False.elim hw)
          replace hw := hw1
          clear hw1
          refine W.cs (cells' := cells) (slots' := slots) rfl rfl ?_
          refine lv_if_ne (tgt := 53) hx hb dX9_take_47 (by decide) (fun c106 => ?_) (fun c106 => ?_)
          · replace hw := hw.1 c106
            refine lv_bipush (v := 30) hx hb dX9_take_53 (by decide) ?_
            refine lv_iload_n hx hb dX9_take_55 rfl (lv_at hl 2 rfl) ?_
            refine lv_imul hx hb dX9_take_56 ?_
            refine lv_iload_n hx hb dX9_take_57 rfl (lv_at hl 3 rfl) ?_
            refine lv_iadd hx hb dX9_take_58 ?_
            refine lv_istore (i := 5) (lv' := [(5, .int (((30 : Int32) * a1) + a2)), (0, .ref o), (1, .int a0), (2, .int a1), (3, .int a2), (4, .int a3)]) hx hb dX9_take_59 hl (by decide) rfl (fun ls hl1 => ?_)
            replace hl := hl1
            clear hl1
            refine lv_aload_n hx hb dX9_take_61 rfl (lv_at hl 1 rfl) ?_
            obtain ⟨fs0, g79, hM0, hx0, hw⟩ := hw
            refine z_get hC hZ hM0 zc8 52 (by decide) q1772 (fun _ h9 => h9) hx0 dX9_take_62 ?_
            refine lv_iload_n hx hb dX9_take_65 rfl (lv_at hl 3 rfl) ?_
            obtain ⟨b80, hr0, hw⟩ := hw
            subst hr0
            obtain ⟨n0, f0, hM0, hi0, hw⟩ := hw
            refine z_iald hC hZ hM0 hi0 dX9_take_66 ?_
            generalize f0 _ = v81 at hw ⊢
            refine lv_iconst (v := 2) hx hb dX9_take_67 (by decide) ?_
            refine lv_icmp_ne (tgt := 110) hx hb dX9_take_68 (by decide) (fun c105 => ?_) (fun c105 => ?_)
            · replace hw := hw.1 c105
              refine lv_aload_n hx hb dX9_take_110 rfl (lv_at hl 1 rfl) ?_
              obtain ⟨fs0, g82, hM0, hx0, hw⟩ := hw
              refine z_get hC hZ hM0 zc8 52 (by decide) q1772 (fun _ h9 => h9) hx0 dX9_take_111 ?_
              refine lv_iload_n hx hb dX9_take_114 rfl (lv_at hl 3 rfl) ?_
              obtain ⟨b83, hr0, hw⟩ := hw
              subst hr0
              obtain ⟨n0, f0, hM0, hi0, hw⟩ := hw
              refine z_iald hC hZ hM0 hi0 dX9_take_115 ?_
              generalize f0 _ = v84 at hw ⊢
              refine lv_if_ne (tgt := 130) hx hb dX9_take_116 (by decide) (fun c91 => ?_) (fun c91 => ?_)
              · replace hw := hw.1 c91
                refine lv_aload_n hx hb dX9_take_130 rfl (lv_at hl 1 rfl) ?_
                obtain ⟨fs0, g85, hM0, hx0, hw⟩ := hw
                refine z_get hC hZ hM0 zc8 54 (by decide) q1774 (fun _ h9 => h9) hx0 dX9_take_131 ?_
                refine lv_iload hx hb dX9_take_134 (lv_at hl 0 rfl) ?_
                obtain ⟨b86, hr0, hw⟩ := hw
                subst hr0
                obtain ⟨n0, f0, hM0, hi0, hw⟩ := hw
                refine z_dald hC hZ hM0 hi0 dX9_take_136 ?_
                generalize f0 _ = v87 at hw ⊢
                exact wk_X9_take_L137 hG _ _ _ _ hk hn hZ (lv_sub hl [1, 2, 5] rfl) hw
              · replace hw := hw.2 c91
                refine lv_aload_n hx hb dX9_take_119 rfl (lv_at hl 1 rfl) ?_
                obtain ⟨fs0, g88, hM0, hx0, hw⟩ := hw
                refine z_get hC hZ hM0 zc8 53 (by decide) q1773 (fun _ h9 => h9) hx0 dX9_take_120 ?_
                refine lv_iload hx hb dX9_take_123 (lv_at hl 0 rfl) ?_
                obtain ⟨b89, hr0, hw⟩ := hw
                subst hr0
                obtain ⟨n0, f0, hM0, hi0, hw⟩ := hw
                refine z_fald hC hZ hM0 hi0 dX9_take_125 ?_
                generalize f0 _ = v90 at hw ⊢
                obtain ⟨hnf, hw⟩ := hw
                refine lv_f2d hx hb dX9_take_126 hnf ?_
                refine lv_goto (tgt := 137) hx hb dX9_take_127 (by decide) ?_
                exact wk_X9_take_L137 hG _ _ _ _ hk hn hZ (lv_sub hl [1, 2, 5] rfl) hw
            · replace hw := hw.2 c105
              refine lv_aload_n hx hb dX9_take_71 rfl (lv_at hl 1 rfl) ?_
              obtain ⟨fs0, g92, hM0, hx0, hw⟩ := hw
              refine z_get hC hZ hM0 zc8 55 (by decide) q1775 (fun _ h9 => h9) hx0 dX9_take_72 ?_
              refine lv_iload hx hb dX9_take_75 (lv_at hl 0 rfl) ?_
              obtain ⟨b93, hr0, hw⟩ := hw
              subst hr0
              obtain ⟨n0, f0, hM0, hi0, hw⟩ := hw
              refine z_lald hC hZ hM0 hi0 dX9_take_77 ?_
              generalize f0 _ = v94 at hw ⊢
              refine lv_iload hx hb dX9_take_78 (lv_at hl 5 rfl) ?_
              refine z_callL hZ (vx_runS (As := [.int a3]) (rest := [.long v94]) hC.fix (w_X9_tens hlt hw) (va_cwS 1 hts (lw_S q1901 q1902 q83 q1903) rfl rfl rfl dd_X9_tens ⟨Nat.le_of_ble_eq_true rfl, Nat.le_of_ble_eq_true rfl⟩) (z_preS hC hZ) rfl rfl hl.1 rfl (lv_room (Nat.le_trans (zrm2 rfl zrm0) (Nat.le_of_ble_eq_true rfl))) dX9_take_80 ⟨hk, hn⟩) (fun r95 M H locs hw1 hZ => ?_) (fun q M H locs ci fs E T9 N9 hw hZ hc1 hM1 hb1 => False.elim hw)
              replace hw := hw1
              clear hw1
              refine W.cs (cells' := cells) (slots' := slots) rfl rfl ?_
              refine lv_lmul hx hb dX9_take_83 ?_
              refine lv_lstore (i := 6) (lv' := [(6, .long (v94 * r95)), (5, .int (((30 : Int32) * a1) + a2)), (0, .ref o), (1, .int a0), (2, .int a1), (3, .int a2), (4, .int a3)]) hx hb dX9_take_84 hl (by decide) rfl (fun ls hl1 => ?_)
              replace hl := hl1
              clear hl1
              refine lv_lload hx hb dX9_take_86 (lv_at hl 0 rfl) ?_
              refine z_callI hZ (vx_runS (As := [.long (v94 * r95)]) (rest := []) hC.fix (w_X9_isInt hlt hw) (va_cwS 1 hts (lw_S q2110 q2111 q83 q2112) rfl rfl rfl dd_X9_isInt ⟨Nat.le_of_ble_eq_true rfl, Nat.le_of_ble_eq_true rfl⟩) (z_preS hC hZ) rfl rfl hl.1 rfl (lv_room (Nat.zero_le _)) dX9_take_88 ⟨hk, hn⟩) (fun r98 M H locs hw1 hZ => ?_) (fun q M H locs ci fs E T9 N9 hw hZ hc1 hM1 hb1 => False.elim hw)
              replace hw := hw1
              clear hw1
              refine W.cs (cells' := cells) (slots' := slots) rfl rfl ?_
              refine lv_if_ne (tgt := 97) hx hb dX9_take_91 (by decide) (fun c104 => ?_) (fun c104 => ?_)
              · replace hw := hw.1 c104
                refine lv_aload_n hx hb dX9_take_97 rfl (lv_at hl 2 rfl) ?_
                refine lv_iload_n hx hb dX9_take_98 rfl (lv_at hl 3 rfl) ?_
                refine lv_iconst (v := 1) hx hb dX9_take_99 (by decide) ?_
                refine lv_lload hx hb dX9_take_100 (lv_at hl 0 rfl) ?_
                refine lv_l2i hx hb dX9_take_102 rfl ?_
                refine lv_iload hx hb dX9_take_103 (lv_at hl 6 rfl) ?_
                obtain ⟨⟨ci0, fs0, hci0, hM0⟩, hw⟩ := hw
                obtain rfl : ci0 = 8 := List.mem_singleton.mp hci0
                refine z_callU hZ (vx_runV (As := [.int a0, .int (1 : Int32), .int ((v94 * r95).toInt32), .int a3]) (rest := []) hC.fix (w_X9_holdsNow hlt hw) (cwV 4 hts (lw_V q2081 q2083 qs48 q83 q2084) rfl rfl rfl ⟨rfl, dd_X9_holdsNow⟩ ⟨Nat.le_of_ble_eq_true rfl, Nat.le_of_ble_eq_true rfl⟩) (z_preV hC hZ hM0 zc8) rfl rfl hl.1 rfl (lv_room (Nat.zero_le _)) dX9_take_105 ⟨hk, hn⟩) (fun r101 M H locs hw1 hZ => ?_) (fun q M H locs ci fs E T9 N9 hw hZ hc1 hM1 hb1 => False.elim hw)
                replace hw := hw1
                clear hw1
                refine W.cs (cells' := cells) (slots' := slots) rfl rfl ?_
                refine lv_iconst (v := 1) hx hb dX9_take_108 (by decide) ?_
                exact z_iret hG hZ hk hn hw dX9_take_109
              · replace hw := hw.2 c104
                refine lv_bipush (v := (-4)) hx hb dX9_take_94 (by decide) ?_
                exact z_iret hG hZ hk hn hw dX9_take_96
          · replace hw := hw.2 c106
            refine lv_bipush (v := (-12)) hx hb dX9_take_50 (by decide) ?_
            exact z_iret hG hZ hk hn hw dX9_take_52
        · replace hw := hw.2 c107
          refine lv_bipush (v := (-11)) hx hb dX9_take_38 (by decide) ?_
          exact z_iret hG hZ hk hn hw dX9_take_40
      · replace hw := hw.2 c108
        exact wk_X9_take_L27 hG _ hk hn hZ (lv_sub hl [] rfl) hw
