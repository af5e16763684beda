set_option maxRecDepth 100000
theorem dd_X0_rowOf : yX0_rowOf.cls ≠ "java/lang/invoke/MethodHandle" ∧ yX0_rowOf.cls ≠ "java/lang/invoke/VarHandle" ∧ (parseMethodDescriptor yX0_rowOf.desc).map (fun d => d.parameters.length) = some 2 := by decide +kernel
theorem dd_X10_init : yX10_init.cls ≠ "java/lang/invoke/MethodHandle" ∧ yX10_init.cls ≠ "java/lang/invoke/VarHandle" ∧ (parseMethodDescriptor yX10_init.desc).map (fun d => d.parameters.length) = some 1 := by decide +kernel
theorem dd_X10_whole : yX10_whole.cls ≠ "java/lang/invoke/MethodHandle" ∧ yX10_whole.cls ≠ "java/lang/invoke/VarHandle" ∧ (parseMethodDescriptor yX10_whole.desc).map (fun d => d.parameters.length) = some 0 := by decide +kernel
theorem dd_X8_number : yX8_number.cls ≠ "java/lang/invoke/MethodHandle" ∧ yX8_number.cls ≠ "java/lang/invoke/VarHandle" ∧ (parseMethodDescriptor yX8_number.desc).map (fun d => d.parameters.length) = some 1 := by decide +kernel
abbrev rm_X0_read (K N : Nat) : Room := { frames := 40, cells := K, slots := N, locals := 935 }
def wp_X0_read_L43 (D : zD) (post : Int32 → zM → Prop) (o : Nat) (k : Nat) (n : Nat) (y0 : Option Nat) (M : zM) : Prop :=
    ((zd y0 fun b1 => zgI M b1 13 6 fun g2 => (zp D M o 0 4 (.int (0 : Int32)) fun M => post g2 M)))
set_option maxHeartbeats 4000000 in
set_option maxRecDepth 100000 in
theorem wk_X0_read_L43 {p : Program} {l : Launch} {e : Env} {s : State} {m : MethodId} {args : Array Value} {below : List Frame} {meth : Method} {c : Code} {D : zD} {post : Int32 → zM → Prop} {K N : Nat} {o : Nat} (hG : zGx p l s m args meth c cX0_read 5 "PluralBranches" D (some .int) "read" (tableOf [(9, 36, 43, 69), (9, 36, 56, 0), (43, 49, 56, 0), (56, 58, 56, 0)])) : ∀ {H : Heap} {locs : List Loc} {cells slots : Nat} {ls : Array Slot} (k : Nat) (n : Nat) (y0 : Option Nat) (M : zM), cells + k ≤ K → slots + n ≤ N → zS D M H locs → lv_has ls 5 [(0, .ref o)] → wp_X0_read_L43 D post o k n y0 M → W p l e (rm_X0_read K N) s m args below meth c H locs cells slots (vx_MQ below (zQ D zI post) (zX D (fun _ _ => False)) args s K N (zA D)) (F0 m 43 ls [va_rf y0]) := by
  have hC := hG.1
  have hx := hC.x
  have hb := hC.b
  have hown := hC.o
  have hts := hC.ts
  have hlt := hG.2.2.2.2.2
  intro H locs cells slots ls k n y0 M hk hn hZ hl hw
  refine z_astore_n (i := 2) (lv' := [(2, va_rf y0), (0, .ref o)]) hC dX0_read_43 rfl hl (by decide) rfl (fun ls hl1 => ?_)
  replace hl := hl1
  clear hl1
  refine z_aload_n hC dX0_read_44 rfl (lv_at hl 0 rfl) ?_
  obtain ⟨b4, hr0, hw⟩ := hw
  subst hr0
  obtain ⟨fs0, g5, hM0, hx0, hw⟩ := hw
  refine z_getN hC hZ hM0 zc13 6 (by decide) q702 (fun _ h9 => h9) hx0 dX0_read_45 ?_
  refine lv_istore_n (i := 3) (lv' := [(3, .int g5), (2, .ref b4), (0, .ref o)]) hx hb dX0_read_48 rfl hl (by decide) rfl (fun ls hl1 => ?_)
  replace hl := hl1
  clear hl1
  refine lv_aload_n hx hb dX0_read_49 rfl (lv_at hl 2 rfl) ?_
  refine lv_iconst (v := 0) hx hb dX0_read_50 (by decide) ?_
  obtain ⟨fs0, hM0, hb0, hk0, hw⟩ := hw
  refine z_put hC hZ hM0 hb0 zc0 4 (by decide) q405 (fun _ h9 => h9) (by decide) rfl rfl hk0 dX0_read_51 (fun H locs hZ => ?_)
  generalize zu M _ _ = M at hw hZ
  refine lv_iload_n hx hb dX0_read_54 rfl (lv_at hl 0 rfl) ?_
  exact z_iret hG hZ (by omega) (by omega) hw dX0_read_55
def wp_X0_read (D : zD) (post : Int32 → zM → Prop) (k : Nat) (n : Nat) (o : Nat) (a0 : Int32) (M : zM) : Prop :=
    (wp_X0_isSlot D (fun r7 M => ((¬ r7 = 0 → (znew D M 9 6 [.null, .int 0, .int 0, .int 0, .int 0, .null] k n fun b10 M => ((∃ k12 n13, k12 ≤ (k - 1) ∧ n13 ≤ (n - 6) ∧ wp_X10_init D (fun _ M => ((zis M b10 [9] ∧ (∃ k15 n16, k15 ≤ ((k - 1) - k12) ∧ n16 ≤ ((n - 6) - n13) ∧ wp_X10_whole D (fun r14 M => (zgR M o 0 5 fun g17 => ((zd g17 fun b18 => zsR D M b18 8 a0 r14 fun M => ((zd r14 fun b19 => zgR M b19 10 2 fun g20 => ((zd g20 fun b21 => (zis M b21 [26] ∧ wp_J3_size D (fun r22 M => (zp D M o 0 4 (.int (0 : Int32)) fun M => post r22 M)) b21 M))))))))) (fun q M => (∃ fs, M q = some (.inr (13, fs))) ∧ wp_X0_read_L43 D post o (((k - 1) - k12) - k15) (((n - 6) - n13) - n16) (some q) M) k15 n16 b10 M)))) k12 n13 b10 (some o) M)))) ∧ (r7 = 0 → post (-1 : Int32) M))) a0 M)
set_option maxHeartbeats 4000000 in
set_option maxRecDepth 100000 in
theorem w_X0_read {l : Launch} {D : zD} {post : Int32 → zM → Prop} (hlt : l.stackTraces = false) {k : Nat} {n : Nat} {o : Nat} {a0 : Int32} {M : zM} (hw : wp_X0_read D post k n o a0 M) : zMet l D yX0_read (wsW_ yX0_read cX0_read 5 (some .int) [(9, 36, 43, 69), (9, 36, 56, 0), (43, 49, 56, 0), (56, 58, 56, 0)]) (rm_X0_read k n) k n [.ref o, .int a0] M zI post (fun _ _ => False) := by
  unfold wp_X0_read at hw
  have hlv : lv_args 0 [.ref o, .int a0] = [(0, .ref o), (1, .int a0)] := (zargs1 rfl (zargs1 rfl rfl))
  refine z_ofWH hlt (by decide) (Nat.le_trans (zsl1 rfl (zsl1 rfl (Nat.le_refl 0 : (lg_sl []).length ≤ 0))) (Nat.le_of_ble_eq_true rfl)) hlv ?_
  intro p e s m args below meth c ls hG hZ hl
  have hC := hG.1
  have hx := hC.x
  have hb := hC.b
  have hown := hC.o
  have hts := hC.ts
  have hlt := hG.2.2.2.2.2
  obtain ⟨cells, hce⟩ : ∃ z : Nat, z = 0 := ⟨0, rfl⟩
  obtain ⟨slots, hsl⟩ : ∃ z : Nat, z = 0 := ⟨0, rfl⟩
  refine W.cs (cells' := cells) (slots' := slots) hce.symm hsl.symm ?_
  have hk : cells + k ≤ k := by omega
  have hn : slots + n ≤ n := by omega
  clear hce hsl
  refine lv_iload_n hx hb dX0_read_0 rfl (lv_at hl 1 rfl) ?_
  refine z_callI hZ (vx_runS (As := [.int a0]) (rest := []) hC.fix (w_X0_isSlot hlt hw) (va_cwS 1 hts (lw_S q528 q529 q67 q530) rfl rfl rfl dd_X0_isSlot ⟨Nat.le_of_ble_eq_true rfl, Nat.le_of_ble_eq_true rfl⟩) (z_preS hC hZ) rfl rfl hl.1 rfl (lv_room (Nat.zero_le _)) dX0_read_1 ⟨(show cells + 0 ≤ k by omega), (show slots + 0 ≤ n by omega)⟩) (fun r27 M H locs hw1 hZ => ?_) (fun q M H locs ci fs E T9 N9 hw hZ hc1 hM1 hb1 => False.elim hw)
  replace hw := hw1
  clear hw1
  refine W.cs (cells' := cells) (slots' := slots) rfl rfl ?_
  refine lv_if_ne (tgt := 9) hx hb dX0_read_4 (by decide) (fun c46 => ?_) (fun c46 => ?_)
  · replace hw := hw.1 c46
    obtain ⟨hk1, hn1, hw⟩ := hw
    refine z_new (fs := [.null, .int 0, .int 0, .int 0, .int 0, .null]) hC hZ zc9 q532 q533 q86 (zdefs (N := 6) (ty := tyX10) (fs := [.null, .int 0, .int 0, .int 0, .int 0, .null]) (by decide)) (show cells + 1 ≤ k by omega) (show slots + 6 ≤ n by omega) dX0_read_9 (fun b30 H hq0 hq1 hZ => ?_)
    replace hw := hw b30 hq0 hq1
    generalize zu M _ _ = M at hw hZ
    have hk : cells + 1 + (k - 1) ≤ k := by omega
    have hn : slots + 6 + (n - 6) ≤ n := by omega
    generalize cells + 1 = cells at hk ⊢
    generalize slots + 6 = slots at hn ⊢
    clear hk1 hn1
    refine lv_dup hx hb dX0_read_12 rfl ?_
    refine lv_aload_n hx hb dX0_read_13 rfl (lv_at hl 0 rfl) ?_
    obtain ⟨k32, n33, hk1, hn1, hw⟩ := hw
    refine z_callU hZ (vx_runIN (As := [.ref o]) (rest := [.ref b30]) hC.fix (w_X10_init hlt hw) ⟨va_cnB 1 hts (lw_meth q536) rfl rfl rfl (hC.nw q534 rfl) (hts _ q86) dd_X10_init ⟨Nat.le_of_ble_eq_true rfl, Nat.le_of_ble_eq_true rfl⟩, rfl, hts _ q535⟩ (z_preS hC hZ) rfl rfl hl.1 rfl (lv_room (Nat.le_trans (zrm1 rfl zrm0) (Nat.le_of_ble_eq_true rfl))) dX0_read_14 ⟨(show cells + k32 ≤ k by omega), (show slots + n33 ≤ n by omega)⟩) (fun r31 M H locs hw1 hZ => ?_) (fun q M H locs ci fs E T9 N9 hw hZ hc1 hM1 hb1 => False.elim hw)
    replace hw := hw1
    clear hw1
    have hk : cells + k32 + ((k - 1) - k32) ≤ k := by omega
    have hn : slots + n33 + ((n - 6) - n33) ≤ n := by omega
    generalize cells + k32 = cells at hk ⊢
    generalize slots + n33 = slots at hn ⊢
    clear hk1 hn1
    obtain ⟨⟨ci0, fs0, hci0, hM0⟩, hw⟩ := hw
    obtain ⟨k35, n36, hk1, hn1, hw⟩ := hw
    obtain rfl : ci0 = 9 := List.mem_singleton.mp hci0
    refine z_callR hZ (vx_runV (As := []) (rest := []) hC.fix (w_X10_whole hlt hw) (cwV 0 hts (lw_V q588 q589 q590 q86 q591) rfl rfl rfl ⟨rfl, dd_X10_whole⟩ ⟨Nat.le_of_ble_eq_true rfl, Nat.le_of_ble_eq_true rfl⟩) (z_preV hC hZ hM0 zc9) rfl rfl hl.1 rfl (lv_room (Nat.zero_le _)) dX0_read_17 ⟨(show cells + k35 ≤ k by omega), (show slots + n36 ≤ n by omega)⟩) (fun r34 M H locs hw1 hZ => ?_) (fun q M H locs ci fs E T9 N9 hw1 hZ hc1 hM1 hb1 => ?_)
    · replace hw := hw1
      clear hw1
      have hk : cells + k35 + (((k - 1) - k32) - k35) ≤ k := by omega
      have hn : slots + n36 + (((n - 6) - n33) - n36) ≤ n := by omega
      generalize cells + k35 = cells at hk ⊢
      generalize slots + n36 = slots at hn ⊢
      clear hk1 hn1
      refine z_astore_n (i := 2) (lv' := [(2, va_rf r34), (0, .ref o), (1, .int a0)]) hC dX0_read_20 rfl hl (by decide) rfl (fun ls hl1 => ?_)
      replace hl := hl1
      clear hl1
      refine lv_aload_n hx hb dX0_read_21 rfl (lv_at hl 1 rfl) ?_
      obtain ⟨fs0, g37, hM0, hx0, hw⟩ := hw
      refine z_get hC hZ hM0 zc0 5 (by decide) q406 (fun _ h9 => h9) hx0 dX0_read_22 ?_
      refine lv_iload_n hx hb dX0_read_25 rfl (lv_at hl 2 rfl) ?_
      refine z_aload_n hC dX0_read_26 rfl (lv_at hl 0 rfl) ?_
      obtain ⟨b38, hr0, hw⟩ := hw
      subst hr0
      obtain ⟨n0, f0, hM0, hb0, hi0, hv0, hw⟩ := hw
      refine z_aastO (r := r34) hC hZ hM0 hb0 rfl hv0 hi0 dX0_read_27 (fun H locs hZ => ?_)
      generalize zu M _ _ = M at hw hZ
      refine z_aload_n hC dX0_read_28 rfl (lv_at hl 0 rfl) ?_
      obtain ⟨b39, hr0, hw⟩ := hw
      subst hr0
      obtain ⟨fs0, g40, hM0, hx0, hw⟩ := hw
      refine z_getN hC hZ hM0 zc10 2 (by decide) q552 (fun _ h9 => h9) hx0 dX0_read_29 ?_
      obtain ⟨b41, hr0, hw⟩ := hw
      subst hr0
      obtain ⟨⟨ci0, fs0, hci0, hM0⟩, hw⟩ := hw
      obtain rfl : ci0 = 26 := List.mem_singleton.mp hci0
      refine z_callI hZ (vx_runV (As := []) (rest := []) hC.fix (w_J3_size hlt hw) (cwV 0 hts (lw_V q505 q464 q465 q74 q466) rfl rfl rfl ⟨rfl, dd_J3_size⟩ ⟨Nat.le_of_ble_eq_true rfl, Nat.le_of_ble_eq_true rfl⟩) (z_preV hC hZ hM0 zc26) rfl rfl hl.1 rfl (lv_room (Nat.zero_le _)) dX0_read_32 ⟨(show cells + 0 ≤ k by omega), (show slots + 0 ≤ n by omega)⟩) (fun r42 M H locs hw1 hZ => ?_) (fun q M H locs ci fs E T9 N9 hw hZ hc1 hM1 hb1 => False.elim hw)
      replace hw := hw1
      clear hw1
      refine W.cs (cells' := cells) (slots' := slots) rfl rfl ?_
      refine lv_istore_n (i := 3) (lv' := [(3, .int r42), (2, .ref b39), (0, .ref o), (1, .int a0)]) hx hb dX0_read_35 rfl hl (by decide) rfl (fun ls hl1 => ?_)
      replace hl := hl1
      clear hl1
      refine lv_aload_n hx hb dX0_read_36 rfl (lv_at hl 2 rfl) ?_
      refine lv_iconst (v := 0) hx hb dX0_read_37 (by decide) ?_
      obtain ⟨fs0, hM0, hb0, hk0, hw⟩ := hw
      refine z_put hC hZ hM0 hb0 zc0 4 (by decide) q405 (fun _ h9 => h9) (by decide) rfl rfl hk0 dX0_read_38 (fun H locs hZ => ?_)
      generalize zu M _ _ = M at hw hZ
      refine lv_iload_n hx hb dX0_read_41 rfl (lv_at hl 0 rfl) ?_
      exact z_iret hG hZ (by omega) (by omega) hw dX0_read_42
    · replace hw := hw1
      clear hw1
      have hk : cells + k35 + (((k - 1) - k32) - k35) ≤ k := by omega
      have hn : slots + n36 + (((n - 6) - n33) - n36) ≤ n := by omega
      generalize cells + k35 = cells at hk ⊢
      generalize slots + n36 = slots at hn ⊢
      clear hk1 hn1
      obtain ⟨⟨fs9, hM9⟩, hw⟩ := hw
      obtain ⟨rfl, rfl⟩ : ci = 13 ∧ fs = fs9 := by rw [hM9] at hM1; cases hM1; exact ⟨rfl, rfl⟩
      refine z_catch hG hZ hM1 hb1 zc13.1 (tableOf []) ⟨9, 36, 43, 69⟩ (tableOf [(9, 36, 56, 0), (43, 49, 56, 0), (56, 58, 56, 0)]) rfl (by decide) (by decide) (by decide) q527 q650 ?_
      exact wk_X0_read_L43 hG _ _ _ _ hk hn hZ (lv_sub hl [0] rfl) hw
  · replace hw := hw.2 c46
    refine lv_iconst (v := (-1)) hx hb dX0_read_7 (by decide) ?_
    exact z_iret hG hZ (by omega) (by omega) hw dX0_read_8
abbrev rm_X8_number : Room := { frames := 1, cells := 0, slots := 0, locals := 64 }
def wp_X8_number_L63 (D : zD) (post : UInt64 → zM → Prop) (o : Nat) (y0 : UInt64) (M : zM) : Prop :=
    post y0 M
set_option maxHeartbeats 4000000 in
set_option maxRecDepth 100000 in
theorem wk_X8_number_L63 {p : Program} {l : Launch} {e : Env} {s : State} {m : MethodId} {args : Array Value} {below : List Frame} {meth : Method} {c : Code} {D : zD} {post : UInt64 → zM → Prop} {o : Nat} (hG : zGx p l s m args meth c cX8_number 5 "PluralBranches$Row" D (some .double) "number" []) : ∀ {H : Heap} {locs : List Loc} {cells slots : Nat} {ls : Array Slot} (y0 : UInt64) (M : zM), cells ≤ 0 → slots ≤ 0 → zS D M H locs → lv_has ls 5 [] → wp_X8_number_L63 D post o y0 M → W p l e rm_X8_number s m args below meth c H locs cells slots (vx_MQ below (zQ D zDb post) (zX D (fun _ _ => False)) args s 0 0 (zA D)) (F0 m 63 ls [.double y0]) := by
  have hC := hG.1
  have hx := hC.x
  have hb := hC.b
  have hown := hC.o
  have hts := hC.ts
  have hlt := hG.2.2.2.2.2
  intro H locs cells slots ls y0 M hk hn hZ hl hw
  exact z_dret hG hZ hk hn hw dX8_number_63
def wp_X8_number (D : zD) (post : UInt64 → zM → Prop) (o : Nat) (a0 : Int32) (M : zM) : Prop :=
    (zgR M o 7 0 fun g1 => ((∃ w x, g1 = some w ∧ zB D ≤ w ∧ M w = some (.inl (3, x)) ∧ (((1 : Int32) = 0 → (zgR M o 7 0 fun g2 => ((∃ w x, g2 = some w ∧ zB D ≤ w ∧ M w = some (.inl (4, x)) ∧ (((1 : Int32) = 0 → (zgR M o 7 0 fun g3 => ((∀ w, g3 = some w → zB D ≤ w ∧ ∃ x : vp_A, M w = some (.inl (2, x))) ∧ ((zd g3 fun b4 => zaL M b4 a0 fun v5 => wp_X8_number_L63 D post o (FP.l2d v5) M))))) ∧ (¬ (1 : Int32) = 0 → ((∀ w, g2 = some w → zB D ≤ w ∧ ∃ x : vp_A, M w = some (.inl (4, x))) ∧ ((zd g2 fun b6 => zaD M b6 a0 fun v7 => wp_X8_number_L63 D post o v7 M)))))) ∨ ((∀ w, g2 = some w → zB D ≤ w ∧ ∃ x : vp_A, M w = some (.inl (2, x)) ∨ M w = some (.inl (3, x))) ∧ (((0 : Int32) = 0 → (zgR M o 7 0 fun g9 => ((∀ w, g9 = some w → zB D ≤ w ∧ ∃ x : vp_A, M w = some (.inl (2, x))) ∧ ((zd g9 fun b10 => zaL M b10 a0 fun v11 => wp_X8_number_L63 D post o (FP.l2d v11) M))))) ∧ (¬ (0 : Int32) = 0 → ((∀ w, g2 = some w → zB D ≤ w ∧ ∃ x : vp_A, M w = some (.inl (4, x))) ∧ ((zd g2 fun b12 => zaD M b12 a0 fun v13 => wp_X8_number_L63 D post o v13 M))))))))) ∧ (¬ (1 : Int32) = 0 → ((∀ w, g1 = some w → zB D ≤ w ∧ ∃ x : vp_A, M w = some (.inl (3, x))) ∧ ((zd g1 fun b15 => zaF M b15 a0 fun v16 => (vf_n64 (FP.f2d v16) ∧ wp_X8_number_L63 D post o (FP.f2d v16) M))))))) ∨ ((∀ w, g1 = some w → zB D ≤ w ∧ ∃ x : vp_A, M w = some (.inl (2, x)) ∨ M w = some (.inl (4, x))) ∧ (((0 : Int32) = 0 → (zgR M o 7 0 fun g18 => ((∃ w x, g18 = some w ∧ zB D ≤ w ∧ M w = some (.inl (4, x)) ∧ (((1 : Int32) = 0 → (zgR M o 7 0 fun g19 => ((∀ w, g19 = some w → zB D ≤ w ∧ ∃ x : vp_A, M w = some (.inl (2, x))) ∧ ((zd g19 fun b20 => zaL M b20 a0 fun v21 => wp_X8_number_L63 D post o (FP.l2d v21) M))))) ∧ (¬ (1 : Int32) = 0 → ((∀ w, g18 = some w → zB D ≤ w ∧ ∃ x : vp_A, M w = some (.inl (4, x))) ∧ ((zd g18 fun b22 => zaD M b22 a0 fun v23 => wp_X8_number_L63 D post o v23 M)))))) ∨ ((∀ w, g18 = some w → zB D ≤ w ∧ ∃ x : vp_A, M w = some (.inl (2, x)) ∨ M w = some (.inl (3, x))) ∧ (((0 : Int32) = 0 → (zgR M o 7 0 fun g25 => ((∀ w, g25 = some w → zB D ≤ w ∧ ∃ x : vp_A, M w = some (.inl (2, x))) ∧ ((zd g25 fun b26 => zaL M b26 a0 fun v27 => wp_X8_number_L63 D post o (FP.l2d v27) M))))) ∧ (¬ (0 : Int32) = 0 → ((∀ w, g18 = some w → zB D ≤ w ∧ ∃ x : vp_A, M w = some (.inl (4, x))) ∧ ((zd g18 fun b28 => zaD M b28 a0 fun v29 => wp_X8_number_L63 D post o v29 M))))))))) ∧ (¬ (0 : Int32) = 0 → ((∀ w, g1 = some w → zB D ≤ w ∧ ∃ x : vp_A, M w = some (.inl (3, x))) ∧ ((zd g1 fun b31 => zaF M b31 a0 fun v32 => (vf_n64 (FP.f2d v32) ∧ wp_X8_number_L63 D post o (FP.f2d v32) M)))))))))
set_option maxHeartbeats 4000000 in
set_option maxRecDepth 100000 in
theorem w_X8_number {l : Launch} {D : zD} {post : UInt64 → zM → Prop} (hlt : l.stackTraces = false) {o : Nat} {a0 : Int32} {M : zM} (hw : wp_X8_number D post o a0 M) : zMet l D yX8_number (ws_ yX8_number cX8_number 5 (some .double)) rm_X8_number 0 0 [.ref o, .int a0] M zDb post (fun _ _ => False) := by
  unfold wp_X8_number at hw
  have hlv : lv_args 0 [.ref o, .int a0] = [(0, .ref o), (1, .int a0)] := (zargs1 rfl (zargs1 rfl rfl))
  refine z_ofW hlt (by decide) (Nat.le_trans (zsl1 rfl (zsl1 rfl (Nat.le_refl 0 : (lg_sl []).length ≤ 0))) (Nat.le_of_ble_eq_true rfl)) hlv ?_
  intro p e s m args below meth c ls hG hZ hl
  have hC := hG.1
  have hx := hC.x
  have hb := hC.b
  have hown := hC.o
  have hts := hC.ts
  have hlt := hG.2.2.2.2.2
  obtain ⟨cells, hce⟩ : ∃ z : Nat, z = 0 := ⟨0, rfl⟩
  obtain ⟨slots, hsl⟩ : ∃ z : Nat, z = 0 := ⟨0, rfl⟩
  refine W.cs (cells' := cells) (slots' := slots) hce.symm hsl.symm ?_
  have hk : cells ≤ 0 := Nat.le_of_eq hce
  have hn : slots ≤ 0 := Nat.le_of_eq hsl
  clear hce hsl
  refine lv_aload_n hx hb dX8_number_0 rfl (lv_at hl 0 rfl) ?_
  obtain ⟨fs0, g34, hM0, hx0, hw⟩ := hw
  refine z_get hC hZ hM0 zc7 0 (by decide) q394 (fun _ h9 => h9) hx0 dX8_number_1 ?_
  refine z_astore (i := 4) (lv' := [(4, va_rf g34), (0, .ref o), (1, .int a0)]) hC dX8_number_4 hl (by decide) rfl (fun ls hl1 => ?_)
  replace hl := hl1
  clear hl1
  refine z_aload hC dX8_number_6 (lv_at hl 0 rfl) ?_
  rcases hw with ⟨w0, x0, hr0, hb0, hM0, hw⟩ | ⟨hc0, hw⟩
  · refine z_instAYO (r := g34) (t := .float) hC hZ hr0 hM0 hb0 (Or.inr (Or.inl ⟨rfl, rfl⟩)) rfl q1653 dX8_number_8 ?_
    refine lv_if_eq (tgt := 27) hx hb dX8_number_11 (by decide) (fun c50 => ?_) (fun c50 => ?_)
    · replace hw := hw.1 c50
      refine lv_aload_n hx hb dX8_number_27 rfl (lv_at hl 1 rfl) ?_
      obtain ⟨fs0, g35, hM0, hx0, hw⟩ := hw
      refine z_get hC hZ hM0 zc7 0 (by decide) q394 (fun _ h9 => h9) hx0 dX8_number_28 ?_
      refine z_astore (i := 4) (lv' := [(4, va_rf g35), (0, .ref o), (1, .int a0)]) hC dX8_number_31 hl (by decide) rfl (fun ls hl1 => ?_)
      replace hl := hl1
      clear hl1
      refine z_aload hC dX8_number_33 (lv_at hl 0 rfl) ?_
      rcases hw with ⟨w0, x0, hr0, hb0, hM0, hw⟩ | ⟨hc0, hw⟩
      · refine z_instAYO (r := g35) (t := .double) hC hZ hr0 hM0 hb0 (Or.inr (Or.inr ⟨rfl, rfl⟩)) rfl q1654 dX8_number_35 ?_
        refine lv_if_eq (tgt := 53) hx hb dX8_number_38 (by decide) (fun c41 => ?_) (fun c41 => ?_)
        · replace hw := hw.1 c41
          refine lv_aload_n hx hb dX8_number_53 rfl (lv_at hl 1 rfl) ?_
          obtain ⟨fs0, g36, hM0, hx0, hw⟩ := hw
          refine z_get hC hZ hM0 zc7 0 (by decide) q394 (fun _ h9 => h9) hx0 dX8_number_54 ?_
          obtain ⟨hc0, hw⟩ := hw
          refine z_castAO (r := g36) (t := .long) hC hZ hc0 (Or.inl ⟨rfl, rfl⟩) rfl q1655 dX8_number_57 ?_
          refine lv_iload_n hx hb dX8_number_60 rfl (lv_at hl 2 rfl) ?_
          obtain ⟨b37, hr0, hw⟩ := hw
          subst hr0
          obtain ⟨n0, f0, hM0, hi0, hw⟩ := hw
          refine z_lald hC hZ hM0 hi0 dX8_number_61 ?_
          generalize f0 _ = v38 at hw ⊢
          refine lv_l2d hx hb dX8_number_62 ?_
          exact wk_X8_number_L63 hG _ _ hk hn hZ (lv_sub hl [] rfl) hw
        · replace hw := hw.2 c41
          refine z_aload hC dX8_number_41 (lv_at hl 0 rfl) ?_
          obtain ⟨hc0, hw⟩ := hw
          refine z_castAO (r := g35) (t := .double) hC hZ hc0 (Or.inr (Or.inr ⟨rfl, rfl⟩)) rfl q1654 dX8_number_43 ?_
          refine z_astore_n (i := 2) (lv' := [(2, va_rf g35), (4, va_rf g35), (0, .ref o), (1, .int a0)]) hC dX8_number_46 rfl hl (by decide) rfl (fun ls hl1 => ?_)
          replace hl := hl1
          clear hl1
          refine z_aload_n hC dX8_number_47 rfl (lv_at hl 0 rfl) ?_
          refine lv_iload_n hx hb dX8_number_48 rfl (lv_at hl 3 rfl) ?_
          obtain ⟨b39, hr0, hw⟩ := hw
          subst hr0
          obtain ⟨n0, f0, hM0, hi0, hw⟩ := hw
          refine z_dald hC hZ hM0 hi0 dX8_number_49 ?_
          generalize f0 _ = v40 at hw ⊢
          refine lv_goto (tgt := 63) hx hb dX8_number_50 (by decide) ?_
          exact wk_X8_number_L63 hG _ _ hk hn hZ (lv_sub hl [] rfl) hw
      · refine z_instANO (r := g35) (t1 := .long) (t2 := .float) hC hZ hc0 (Or.inl ⟨rfl, rfl⟩) (Or.inr (Or.inl ⟨rfl, rfl⟩)) (by decide) (by decide) q1654 dX8_number_35 ?_
        refine lv_if_eq (tgt := 53) hx hb dX8_number_38 (by decide) (fun c47 => ?_) (fun c47 => ?_)
        · replace hw := hw.1 c47
          refine lv_aload_n hx hb dX8_number_53 rfl (lv_at hl 1 rfl) ?_
          obtain ⟨fs0, g42, hM0, hx0, hw⟩ := hw
          refine z_get hC hZ hM0 zc7 0 (by decide) q394 (fun _ h9 => h9) hx0 dX8_number_54 ?_
          obtain ⟨hc0, hw⟩ := hw
          refine z_castAO (r := g42) (t := .long) hC hZ hc0 (Or.inl ⟨rfl, rfl⟩) rfl q1655 dX8_number_57 ?_
          refine lv_iload_n hx hb dX8_number_60 rfl (lv_at hl 2 rfl) ?_
          obtain ⟨b43, hr0, hw⟩ := hw
          subst hr0
          obtain ⟨n0, f0, hM0, hi0, hw⟩ := hw
          refine z_lald hC hZ hM0 hi0 dX8_number_61 ?_
          generalize f0 _ = v44 at hw ⊢
          refine lv_l2d hx hb dX8_number_62 ?_
          exact wk_X8_number_L63 hG _ _ hk hn hZ (lv_sub hl [] rfl) hw
        · replace hw := hw.2 c47
          refine z_aload hC dX8_number_41 (lv_at hl 0 rfl) ?_
          obtain ⟨hc0, hw⟩ := hw
          refine z_castAO (r := g35) (t := .double) hC hZ hc0 (Or.inr (Or.inr ⟨rfl, rfl⟩)) rfl q1654 dX8_number_43 ?_
          refine z_astore_n (i := 2) (lv' := [(2, va_rf g35), (4, va_rf g35), (0, .ref o), (1, .int a0)]) hC dX8_number_46 rfl hl (by decide) rfl (fun ls hl1 => ?_)
          replace hl := hl1
          clear hl1
          refine z_aload_n hC dX8_number_47 rfl (lv_at hl 0 rfl) ?_
          refine lv_iload_n hx hb dX8_number_48 rfl (lv_at hl 3 rfl) ?_
          obtain ⟨b45, hr0, hw⟩ := hw
          subst hr0
          obtain ⟨n0, f0, hM0, hi0, hw⟩ := hw
          refine z_dald hC hZ hM0 hi0 dX8_number_49 ?_
          generalize f0 _ = v46 at hw ⊢
          refine lv_goto (tgt := 63) hx hb dX8_number_50 (by decide) ?_
          exact wk_X8_number_L63 hG _ _ hk hn hZ (lv_sub hl [] rfl) hw
    · replace hw := hw.2 c50
      refine z_aload hC dX8_number_14 (lv_at hl 0 rfl) ?_
      obtain ⟨hc0, hw⟩ := hw
      refine z_castAO (r := g34) (t := .float) hC hZ hc0 (Or.inr (Or.inl ⟨rfl, rfl⟩)) rfl q1653 dX8_number_16 ?_
      refine z_astore_n (i := 3) (lv' := [(3, va_rf g34), (4, va_rf g34), (0, .ref o), (1, .int a0)]) hC dX8_number_19 rfl hl (by decide) rfl (fun ls hl1 => ?_)
      replace hl := hl1
      clear hl1
      refine z_aload_n hC dX8_number_20 rfl (lv_at hl 0 rfl) ?_
      refine lv_iload_n hx hb dX8_number_21 rfl (lv_at hl 3 rfl) ?_
      obtain ⟨b48, hr0, hw⟩ := hw
      subst hr0
      obtain ⟨n0, f0, hM0, hi0, hw⟩ := hw
      refine z_fald hC hZ hM0 hi0 dX8_number_22 ?_
      generalize f0 _ = v49 at hw ⊢
      obtain ⟨hnf, hw⟩ := hw
      refine lv_f2d hx hb dX8_number_23 hnf ?_
      refine lv_goto (tgt := 63) hx hb dX8_number_24 (by decide) ?_
      exact wk_X8_number_L63 hG _ _ hk hn hZ (lv_sub hl [] rfl) hw
  · refine z_instANO (r := g34) (t1 := .long) (t2 := .double) hC hZ hc0 (Or.inl ⟨rfl, rfl⟩) (Or.inr (Or.inr ⟨rfl, rfl⟩)) (by decide) (by decide) q1653 dX8_number_8 ?_
    refine lv_if_eq (tgt := 27) hx hb dX8_number_11 (by decide) (fun c66 => ?_) (fun c66 => ?_)
    · replace hw := hw.1 c66
      refine lv_aload_n hx hb dX8_number_27 rfl (lv_at hl 1 rfl) ?_
      obtain ⟨fs0, g51, hM0, hx0, hw⟩ := hw
      refine z_get hC hZ hM0 zc7 0 (by decide) q394 (fun _ h9 => h9) hx0 dX8_number_28 ?_
      refine z_astore (i := 4) (lv' := [(4, va_rf g51), (0, .ref o), (1, .int a0)]) hC dX8_number_31 hl (by decide) rfl (fun ls hl1 => ?_)
      replace hl := hl1
      clear hl1
      refine z_aload hC dX8_number_33 (lv_at hl 0 rfl) ?_
      rcases hw with ⟨w0, x0, hr0, hb0, hM0, hw⟩ | ⟨hc0, hw⟩
      · refine z_instAYO (r := g51) (t := .double) hC hZ hr0 hM0 hb0 (Or.inr (Or.inr ⟨rfl, rfl⟩)) rfl q1654 dX8_number_35 ?_
        refine lv_if_eq (tgt := 53) hx hb dX8_number_38 (by decide) (fun c57 => ?_) (fun c57 => ?_)
        · replace hw := hw.1 c57
          refine lv_aload_n hx hb dX8_number_53 rfl (lv_at hl 1 rfl) ?_
          obtain ⟨fs0, g52, hM0, hx0, hw⟩ := hw
          refine z_get hC hZ hM0 zc7 0 (by decide) q394 (fun _ h9 => h9) hx0 dX8_number_54 ?_
          obtain ⟨hc0, hw⟩ := hw
          refine z_castAO (r := g52) (t := .long) hC hZ hc0 (Or.inl ⟨rfl, rfl⟩) rfl q1655 dX8_number_57 ?_
          refine lv_iload_n hx hb dX8_number_60 rfl (lv_at hl 2 rfl) ?_
          obtain ⟨b53, hr0, hw⟩ := hw
          subst hr0
          obtain ⟨n0, f0, hM0, hi0, hw⟩ := hw
          refine z_lald hC hZ hM0 hi0 dX8_number_61 ?_
          generalize f0 _ = v54 at hw ⊢
          refine lv_l2d hx hb dX8_number_62 ?_
          exact wk_X8_number_L63 hG _ _ hk hn hZ (lv_sub hl [] rfl) hw
        · replace hw := hw.2 c57
          refine z_aload hC dX8_number_41 (lv_at hl 0 rfl) ?_
          obtain ⟨hc0, hw⟩ := hw
          refine z_castAO (r := g51) (t := .double) hC hZ hc0 (Or.inr (Or.inr ⟨rfl, rfl⟩)) rfl q1654 dX8_number_43 ?_
          refine z_astore_n (i := 2) (lv' := [(2, va_rf g51), (4, va_rf g51), (0, .ref o), (1, .int a0)]) hC dX8_number_46 rfl hl (by decide) rfl (fun ls hl1 => ?_)
          replace hl := hl1
          clear hl1
          refine z_aload_n hC dX8_number_47 rfl (lv_at hl 0 rfl) ?_
          refine lv_iload_n hx hb dX8_number_48 rfl (lv_at hl 3 rfl) ?_
          obtain ⟨b55, hr0, hw⟩ := hw
          subst hr0
          obtain ⟨n0, f0, hM0, hi0, hw⟩ := hw
          refine z_dald hC hZ hM0 hi0 dX8_number_49 ?_
          generalize f0 _ = v56 at hw ⊢
          refine lv_goto (tgt := 63) hx hb dX8_number_50 (by decide) ?_
          exact wk_X8_number_L63 hG _ _ hk hn hZ (lv_sub hl [] rfl) hw
      · refine z_instANO (r := g51) (t1 := .long) (t2 := .float) hC hZ hc0 (Or.inl ⟨rfl, rfl⟩) (Or.inr (Or.inl ⟨rfl, rfl⟩)) (by decide) (by decide) q1654 dX8_number_35 ?_
        refine lv_if_eq (tgt := 53) hx hb dX8_number_38 (by decide) (fun c63 => ?_) (fun c63 => ?_)
        · replace hw := hw.1 c63
          refine lv_aload_n hx hb dX8_number_53 rfl (lv_at hl 1 rfl) ?_
          obtain ⟨fs0, g58, hM0, hx0, hw⟩ := hw
          refine z_get hC hZ hM0 zc7 0 (by decide) q394 (fun _ h9 => h9) hx0 dX8_number_54 ?_
          obtain ⟨hc0, hw⟩ := hw
          refine z_castAO (r := g58) (t := .long) hC hZ hc0 (Or.inl ⟨rfl, rfl⟩) rfl q1655 dX8_number_57 ?_
          refine lv_iload_n hx hb dX8_number_60 rfl (lv_at hl 2 rfl) ?_
          obtain ⟨b59, hr0, hw⟩ := hw
          subst hr0
          obtain ⟨n0, f0, hM0, hi0, hw⟩ := hw
          refine z_lald hC hZ hM0 hi0 dX8_number_61 ?_
          generalize f0 _ = v60 at hw ⊢
          refine lv_l2d hx hb dX8_number_62 ?_
          exact wk_X8_number_L63 hG _ _ hk hn hZ (lv_sub hl [] rfl) hw
        · replace hw := hw.2 c63
          refine z_aload hC dX8_number_41 (lv_at hl 0 rfl) ?_
          obtain ⟨hc0, hw⟩ := hw
          refine z_castAO (r := g51) (t := .double) hC hZ hc0 (Or.inr (Or.inr ⟨rfl, rfl⟩)) rfl q1654 dX8_number_43 ?_
          refine z_astore_n (i := 2) (lv' := [(2, va_rf g51), (4, va_rf g51), (0, .ref o), (1, .int a0)]) hC dX8_number_46 rfl hl (by decide) rfl (fun ls hl1 => ?_)
          replace hl := hl1
          clear hl1
          refine z_aload_n hC dX8_number_47 rfl (lv_at hl 0 rfl) ?_
          refine lv_iload_n hx hb dX8_number_48 rfl (lv_at hl 3 rfl) ?_
          obtain ⟨b61, hr0, hw⟩ := hw
          subst hr0
          obtain ⟨n0, f0, hM0, hi0, hw⟩ := hw
          refine z_dald hC hZ hM0 hi0 dX8_number_49 ?_
          generalize f0 _ = v62 at hw ⊢
          refine lv_goto (tgt := 63) hx hb dX8_number_50 (by decide) ?_
          exact wk_X8_number_L63 hG _ _ hk hn hZ (lv_sub hl [] rfl) hw
    · replace hw := hw.2 c66
      refine z_aload hC dX8_number_14 (lv_at hl 0 rfl) ?_
      obtain ⟨hc0, hw⟩ := hw
      refine z_castAO (r := g34) (t := .float) hC hZ hc0 (Or.inr (Or.inl ⟨rfl, rfl⟩)) rfl q1653 dX8_number_16 ?_
      refine z_astore_n (i := 3) (lv' := [(3, va_rf g34), (4, va_rf g34), (0, .ref o), (1, .int a0)]) hC dX8_number_19 rfl hl (by decide) rfl (fun ls hl1 => ?_)
      replace hl := hl1
      clear hl1
      refine z_aload_n hC dX8_number_20 rfl (lv_at hl 0 rfl) ?_
      refine lv_iload_n hx hb dX8_number_21 rfl (lv_at hl 3 rfl) ?_
      obtain ⟨b64, hr0, hw⟩ := hw
      subst hr0
      obtain ⟨n0, f0, hM0, hi0, hw⟩ := hw
      refine z_fald hC hZ hM0 hi0 dX8_number_22 ?_
      generalize f0 _ = v65 at hw ⊢
      obtain ⟨hnf, hw⟩ := hw
      refine lv_f2d hx hb dX8_number_23 hnf ?_
      refine lv_goto (tgt := 63) hx hb dX8_number_24 (by decide) ?_
      exact wk_X8_number_L63 hG _ _ hk hn hZ (lv_sub hl [] rfl) hw
abbrev rm_X0_remains : Room := { frames := 4, cells := 0, slots := 0, locals := 131 }
def wp_X0_remains_L33 (D : zD) (post : Int64 → zM → Prop) (o : Nat) (M : zM) : Prop :=
    post (-9223372036854775808 : Int64) M
set_option maxHeartbeats 4000000 in
set_option maxRecDepth 100000 in
theorem wk_X0_remains_L33 {p : Program} {l : Launch} {e : Env} {s : State} {m : MethodId} {args : Array Value} {below : List Frame} {meth : Method} {c : Code} {D : zD} {post : Int64 → zM → Prop} {o : Nat} (hG : zGx p l s m args meth c cX0_remains 6 "PluralBranches" D (some .long) "remains" []) : ∀ {H : Heap} {locs : List Loc} {cells slots : Nat} {ls : Array Slot} (M : zM), cells ≤ 0 → slots ≤ 0 → zS D M H locs → lv_has ls 6 [] → wp_X0_remains_L33 D post o M → W p l e rm_X0_remains s m args below meth c H locs cells slots (vx_MQ below (zQ D zL post) (zX D (fun _ _ => False)) args s 0 0 (zA D)) (F0 m 33 ls []) := by
  have hC := hG.1
  have hx := hC.x
  have hb := hC.b
  have hown := hC.o
  have hts := hC.ts
  have hlt := hG.2.2.2.2.2
  intro H locs cells slots ls M hk hn hZ hl hw
  refine lv_ldc2 hx hb hown (hts _ q442) dX0_remains_33 ?_
  exact z_lret hG hZ hk hn hw dX0_remains_36
def wp_X0_remains (D : zD) (post : Int64 → zM → Prop) (o : Nat) (a0 : Int32) (a1 : Int32) (a2 : Int32) (M : zM) : Prop :=
    ((zis M o [0] ∧ wp_X0_unlike D (fun r1 M => ((¬ r1 = 0 → wp_X0_remains_L33 D post o M) ∧ (r1 = 0 → ((zis M o [0] ∧ wp_X0_unlike D (fun r4 M => ((¬ r4 = 0 → wp_X0_remains_L33 D post o M) ∧ (r4 = 0 → (zgR M o 0 7 fun g7 => ((zd g7 fun b8 => zaR M b8 10 a0 fun v9 => ((zd v9 fun b10 => (zis M b10 [7] ∧ wp_X8_number D (fun r11 M => ((¬ (Op.cmpValue (FP.dcmp r11 FP.dconst0) .l) = 0 → (zgR M o 0 7 fun g14 => ((zd g14 fun b15 => zaR M b15 10 a0 fun v16 => ((zd v16 fun b17 => zgR M b17 7 0 fun g18 => ((∃ w x, g18 = some w ∧ zB D ≤ w ∧ M w = some (.inl (2, x)) ∧ (((1 : Int32) = 0 → ((∃ w x, g18 = some w ∧ zB D ≤ w ∧ M w = some (.inl (3, x)) ∧ (((1 : Int32) = 0 → ((∀ w, g18 = some w → zB D ≤ w ∧ ∃ x : vp_A, M w = some (.inl (4, x))) ∧ ((zd g18 fun b19 => zaD M b19 a1 fun v20 => (zaD M b19 a2 fun v21 => (vf_n64 (FP.drem v20 v21) ∧ (vf_n64 (FP.dmul (FP.drem v20 v21) (4652007308841189376 : UInt64)) ∧ post (FP.d2l (FP.dmul (FP.drem v20 v21) (4652007308841189376 : UInt64))) M))))))) ∧ (¬ (1 : Int32) = 0 → ((∀ w, g18 = some w → zB D ≤ w ∧ ∃ x : vp_A, M w = some (.inl (3, x))) ∧ ((zd g18 fun b22 => zaF M b22 a1 fun v23 => (zaF M b22 a2 fun v24 => (vf_n32 (FP.frem v23 v24) ∧ (vf_n32 (FP.fmul (FP.frem v23 v24) (1148846080 : UInt32)) ∧ post (FP.f2l (FP.fmul (FP.frem v23 v24) (1148846080 : UInt32))) M))))))))) ∨ ((∀ w, g18 = some w → zB D ≤ w ∧ ∃ x : vp_A, M w = some (.inl (2, x)) ∨ M w = some (.inl (4, x))) ∧ (((0 : Int32) = 0 → ((∀ w, g18 = some w → zB D ≤ w ∧ ∃ x : vp_A, M w = some (.inl (4, x))) ∧ ((zd g18 fun b26 => zaD M b26 a1 fun v27 => (zaD M b26 a2 fun v28 => (vf_n64 (FP.drem v27 v28) ∧ (vf_n64 (FP.dmul (FP.drem v27 v28) (4652007308841189376 : UInt64)) ∧ post (FP.d2l (FP.dmul (FP.drem v27 v28) (4652007308841189376 : UInt64))) M))))))) ∧ (¬ (0 : Int32) = 0 → ((∀ w, g18 = some w → zB D ≤ w ∧ ∃ x : vp_A, M w = some (.inl (3, x))) ∧ ((zd g18 fun b29 => zaF M b29 a1 fun v30 => (zaF M b29 a2 fun v31 => (vf_n32 (FP.frem v30 v31) ∧ (vf_n32 (FP.fmul (FP.frem v30 v31) (1148846080 : UInt32)) ∧ post (FP.f2l (FP.fmul (FP.frem v30 v31) (1148846080 : UInt32))) M))))))))))) ∧ (¬ (1 : Int32) = 0 → ((∀ w, g18 = some w → zB D ≤ w ∧ ∃ x : vp_A, M w = some (.inl (2, x))) ∧ ((zd g18 fun b33 => zaL M b33 a1 fun v34 => (zaL M b33 a2 fun v35 => (¬ v35 = 0 ∧ post (v34 - v34 / v35 * v35) M)))))))) ∨ ((∀ w, g18 = some w → zB D ≤ w ∧ ∃ x : vp_A, M w = some (.inl (3, x)) ∨ M w = some (.inl (4, x))) ∧ (((0 : Int32) = 0 → ((∃ w x, g18 = some w ∧ zB D ≤ w ∧ M w = some (.inl (3, x)) ∧ (((1 : Int32) = 0 → ((∀ w, g18 = some w → zB D ≤ w ∧ ∃ x : vp_A, M w = some (.inl (4, x))) ∧ ((zd g18 fun b37 => zaD M b37 a1 fun v38 => (zaD M b37 a2 fun v39 => (vf_n64 (FP.drem v38 v39) ∧ (vf_n64 (FP.dmul (FP.drem v38 v39) (4652007308841189376 : UInt64)) ∧ post (FP.d2l (FP.dmul (FP.drem v38 v39) (4652007308841189376 : UInt64))) M))))))) ∧ (¬ (1 : Int32) = 0 → ((∀ w, g18 = some w → zB D ≤ w ∧ ∃ x : vp_A, M w = some (.inl (3, x))) ∧ ((zd g18 fun b40 => zaF M b40 a1 fun v41 => (zaF M b40 a2 fun v42 => (vf_n32 (FP.frem v41 v42) ∧ (vf_n32 (FP.fmul (FP.frem v41 v42) (1148846080 : UInt32)) ∧ post (FP.f2l (FP.fmul (FP.frem v41 v42) (1148846080 : UInt32))) M))))))))) ∨ ((∀ w, g18 = some w → zB D ≤ w ∧ ∃ x : vp_A, M w = some (.inl (2, x)) ∨ M w = some (.inl (4, x))) ∧ (((0 : Int32) = 0 → ((∀ w, g18 = some w → zB D ≤ w ∧ ∃ x : vp_A, M w = some (.inl (4, x))) ∧ ((zd g18 fun b44 => zaD M b44 a1 fun v45 => (zaD M b44 a2 fun v46 => (vf_n64 (FP.drem v45 v46) ∧ (vf_n64 (FP.dmul (FP.drem v45 v46) (4652007308841189376 : UInt64)) ∧ post (FP.d2l (FP.dmul (FP.drem v45 v46) (4652007308841189376 : UInt64))) M))))))) ∧ (¬ (0 : Int32) = 0 → ((∀ w, g18 = some w → zB D ≤ w ∧ ∃ x : vp_A, M w = some (.inl (3, x))) ∧ ((zd g18 fun b47 => zaF M b47 a1 fun v48 => (zaF M b47 a2 fun v49 => (vf_n32 (FP.frem v48 v49) ∧ (vf_n32 (FP.fmul (FP.frem v48 v49) (1148846080 : UInt32)) ∧ post (FP.f2l (FP.fmul (FP.frem v48 v49) (1148846080 : UInt32))) M))))))))))) ∧ (¬ (0 : Int32) = 0 → ((∀ w, g18 = some w → zB D ≤ w ∧ ∃ x : vp_A, M w = some (.inl (2, x))) ∧ ((zd g18 fun b51 => zaL M b51 a1 fun v52 => (zaL M b51 a2 fun v53 => (¬ v53 = 0 ∧ post (v52 - v52 / v53 * v53) M))))))))))))))) ∧ ((Op.cmpValue (FP.dcmp r11 FP.dconst0) .l) = 0 → wp_X0_remains_L33 D post o M))) b10 a2 M))))))))) o a0 a2 M))))) o a0 a1 M))
set_option maxHeartbeats 4000000 in
set_option maxRecDepth 100000 in
theorem w_X0_remains {l : Launch} {D : zD} {post : Int64 → zM → Prop} (hlt : l.stackTraces = false) {o : Nat} {a0 : Int32} {a1 : Int32} {a2 : Int32} {M : zM} (hw : wp_X0_remains D post o a0 a1 a2 M) : zMet l D yX0_remains (ws_ yX0_remains cX0_remains 6 (some .long)) rm_X0_remains 0 0 [.ref o, .int a0, .int a1, .int a2] M zL post (fun _ _ => False) := by
  unfold wp_X0_remains at hw
  have hlv : lv_args 0 [.ref o, .int a0, .int a1, .int a2] = [(0, .ref o), (1, .int a0), (2, .int a1), (3, .int a2)] := (zargs1 rfl (zargs1 rfl (zargs1 rfl (zargs1 rfl rfl))))
  refine z_ofW hlt (by decide) (Nat.le_trans (zsl1 rfl (zsl1 rfl (zsl1 rfl (zsl1 rfl (Nat.le_refl 0 : (lg_sl []).length ≤ 0))))) (Nat.le_of_ble_eq_true rfl)) hlv ?_
  intro p e s m args below meth c ls hG hZ hl
  have hC := hG.1
  have hx := hC.x
  have hb := hC.b
  have hown := hC.o
  have hts := hC.ts
  have hlt := hG.2.2.2.2.2
  obtain ⟨cells, hce⟩ : ∃ z : Nat, z = 0 := ⟨0, rfl⟩
  obtain ⟨slots, hsl⟩ : ∃ z : Nat, z = 0 := ⟨0, rfl⟩
  refine W.cs (cells' := cells) (slots' := slots) hce.symm hsl.symm ?_
  have hk : cells ≤ 0 := Nat.le_of_eq hce
  have hn : slots ≤ 0 := Nat.le_of_eq hsl
  clear hce hsl
  refine lv_aload_n hx hb dX0_remains_0 rfl (lv_at hl 0 rfl) ?_
  refine lv_iload_n hx hb dX0_remains_1 rfl (lv_at hl 1 rfl) ?_
  refine lv_iload_n hx hb dX0_remains_2 rfl (lv_at hl 2 rfl) ?_
  obtain ⟨⟨ci0, fs0, hci0, hM0⟩, hw⟩ := hw
  obtain rfl : ci0 = 0 := List.mem_singleton.mp hci0
  refine z_callI hZ (vx_runV (As := [.int a0, .int a1]) (rest := []) hC.fix (w_X0_unlike hlt hw) (cwV 2 hts (lw_V q1645 q1647 qs27 q67 q1648) rfl rfl rfl ⟨rfl, dd_X0_unlike⟩ ⟨Nat.le_of_ble_eq_true rfl, Nat.le_of_ble_eq_true rfl⟩) (z_preV hC hZ hM0 zc0) rfl rfl hl.1 rfl (lv_room (Nat.zero_le _)) dX0_remains_3 ⟨hk, hn⟩) (fun r58 M H locs hw1 hZ => ?_) (fun q M H locs ci fs E T9 N9 hw hZ hc1 hM1 hb1 => False.elim hw)
  replace hw := hw1
  clear hw1
  refine W.cs (cells' := cells) (slots' := slots) rfl rfl ?_
  refine lv_if_ne (tgt := 33) hx hb dX0_remains_6 (by decide) (fun c114 => ?_) (fun c114 => ?_)
  · replace hw := hw.1 c114
    exact wk_X0_remains_L33 hG _ hk hn hZ (lv_sub hl [] rfl) hw
  · replace hw := hw.2 c114
    refine lv_aload_n hx hb dX0_remains_9 rfl (lv_at hl 0 rfl) ?_
    refine lv_iload_n hx hb dX0_remains_10 rfl (lv_at hl 1 rfl) ?_
    refine lv_iload_n hx hb dX0_remains_11 rfl (lv_at hl 3 rfl) ?_
    obtain ⟨⟨ci0, fs0, hci0, hM0⟩, hw⟩ := hw
    obtain rfl : ci0 = 0 := List.mem_singleton.mp hci0
    refine z_callI hZ (vx_runV (As := [.int a0, .int a2]) (rest := []) hC.fix (w_X0_unlike hlt hw) (cwV 2 hts (lw_V q1645 q1647 qs27 q67 q1648) rfl rfl rfl ⟨rfl, dd_X0_unlike⟩ ⟨Nat.le_of_ble_eq_true rfl, Nat.le_of_ble_eq_true rfl⟩) (z_preV hC hZ hM0 zc0) rfl rfl hl.1 rfl (lv_room (Nat.zero_le _)) dX0_remains_12 ⟨hk, hn⟩) (fun r61 M H locs hw1 hZ => ?_) (fun q M H locs ci fs E T9 N9 hw hZ hc1 hM1 hb1 => False.elim hw)
    replace hw := hw1
    clear hw1
    refine W.cs (cells' := cells) (slots' := slots) rfl rfl ?_
    refine lv_if_ne (tgt := 33) hx hb dX0_remains_15 (by decide) (fun c113 => ?_) (fun c113 => ?_)
    · replace hw := hw.1 c113
      exact wk_X0_remains_L33 hG _ hk hn hZ (lv_sub hl [] rfl) hw
    · replace hw := hw.2 c113
      refine lv_aload_n hx hb dX0_remains_18 rfl (lv_at hl 0 rfl) ?_
      obtain ⟨fs0, g64, hM0, hx0, hw⟩ := hw
      refine z_get hC hZ hM0 zc0 7 (by decide) q408 (fun _ h9 => h9) hx0 dX0_remains_19 ?_
      refine lv_iload_n hx hb dX0_remains_22 rfl (lv_at hl 1 rfl) ?_
      obtain ⟨b65, hr0, hw⟩ := hw
      subst hr0
      obtain ⟨n0, f0, v66, hM0, hi0, hr0, hw⟩ := hw
      refine z_aald hC hZ hM0 (by decide) rfl hi0 hr0 dX0_remains_23 ?_
      refine lv_iload_n hx hb dX0_remains_24 rfl (lv_at hl 3 rfl) ?_
      obtain ⟨b67, hr0, hw⟩ := hw
      subst hr0
      obtain ⟨⟨ci0, fs0, hci0, hM0⟩, hw⟩ := hw
      obtain rfl : ci0 = 7 := List.mem_singleton.mp hci0
      refine z_callD hZ (vx_runV (As := [.int a2]) (rest := []) hC.fix (w_X8_number hlt hw) (cwV 1 hts (lw_V q1667 q1668 q1669 q82 q1670) rfl rfl rfl ⟨rfl, dd_X8_number⟩ ⟨Nat.le_of_ble_eq_true rfl, Nat.le_of_ble_eq_true rfl⟩) (z_preV hC hZ hM0 zc7) rfl rfl hl.1 rfl (lv_room (Nat.zero_le _)) dX0_remains_25 ⟨hk, hn⟩) (fun r68 M H locs hw1 hZ => ?_) (fun q M H locs ci fs E T9 N9 hw hZ hc1 hM1 hb1 => False.elim hw)
      replace hw := hw1
      clear hw1
      refine W.cs (cells' := cells) (slots' := slots) rfl rfl ?_
      refine lv_dconst0 hx hb dX0_remains_28 ?_
      refine lv_dcmp hx hb dX0_remains_29 ?_
      refine lv_if_ne (tgt := 37) hx hb dX0_remains_30 (by decide) (fun c112 => ?_) (fun c112 => ?_)
      · replace hw := hw.1 c112
        refine lv_aload_n hx hb dX0_remains_37 rfl (lv_at hl 0 rfl) ?_
        obtain ⟨fs0, g71, hM0, hx0, hw⟩ := hw
        refine z_get hC hZ hM0 zc0 7 (by decide) q408 (fun _ h9 => h9) hx0 dX0_remains_38 ?_
        refine lv_iload_n hx hb dX0_remains_41 rfl (lv_at hl 1 rfl) ?_
        obtain ⟨b72, hr0, hw⟩ := hw
        subst hr0
        obtain ⟨n0, f0, v73, hM0, hi0, hr0, hw⟩ := hw
        refine z_aald hC hZ hM0 (by decide) rfl hi0 hr0 dX0_remains_42 ?_
        obtain ⟨b74, hr0, hw⟩ := hw
        subst hr0
        obtain ⟨fs0, g75, hM0, hx0, hw⟩ := hw
        refine z_getN hC hZ hM0 zc7 0 (by decide) q395 (fun _ h9 => h9) hx0 dX0_remains_43 ?_
        refine z_astore (i := 4) (lv' := [(4, va_rf g75), (0, .ref o), (1, .int a0), (2, .int a1), (3, .int a2)]) hC dX0_remains_46 hl (by decide) rfl (fun ls hl1 => ?_)
        replace hl := hl1
        clear hl1
        refine z_aload hC dX0_remains_48 (lv_at hl 0 rfl) ?_
        rcases hw with ⟨w0, x0, hr0, hb0, hM0, hw⟩ | ⟨hc0, hw⟩
        · refine z_instAYO (r := g75) (t := .long) hC hZ hr0 hM0 hb0 (Or.inl ⟨rfl, rfl⟩) rfl q1656 dX0_remains_50 ?_
          refine lv_if_eq (tgt := 73) hx hb dX0_remains_53 (by decide) (fun c93 => ?_) (fun c93 => ?_)
          · replace hw := hw.1 c93
            refine z_aload hC dX0_remains_73 (lv_at hl 0 rfl) ?_
            rcases hw with ⟨w0, x0, hr0, hb0, hM0, hw⟩ | ⟨hc0, hw⟩
            · refine z_instAYO (r := g75) (t := .float) hC hZ hr0 hM0 hb0 (Or.inr (Or.inl ⟨rfl, rfl⟩)) rfl q1657 dX0_remains_75 ?_
              refine lv_if_eq (tgt := 103) hx hb dX0_remains_78 (by decide) (fun c82 => ?_) (fun c82 => ?_)
              · replace hw := hw.1 c82
                refine z_aload hC dX0_remains_103 (lv_at hl 0 rfl) ?_
                obtain ⟨hc0, hw⟩ := hw
                refine z_castAO (r := g75) (t := .double) hC hZ hc0 (Or.inr (Or.inr ⟨rfl, rfl⟩)) rfl q1658 dX0_remains_105 ?_
                refine z_astore (i := 5) (lv' := [(5, va_rf g75), (4, va_rf g75), (0, .ref o), (1, .int a0), (2, .int a1), (3, .int a2)]) hC dX0_remains_108 hl (by decide) (zfc rfl (zfk (zfa rfl) (zfk rfl (zfk rfl (zfk rfl (zfk rfl rfl)))))) (fun ls hl1 => ?_)
                replace hl := hl1
                clear hl1
                refine z_aload hC dX0_remains_110 (lv_at hl 0 rfl) ?_
                refine lv_iload_n hx hb dX0_remains_112 rfl (lv_at hl 4 rfl) ?_
                obtain ⟨b76, hr0, hw⟩ := hw
                subst hr0
                obtain ⟨n0, f0, hM0, hi0, hw⟩ := hw
                refine z_dald hC hZ hM0 hi0 dX0_remains_113 ?_
                generalize f0 _ = v77 at hw ⊢
                refine lv_aload hx hb dX0_remains_114 (lv_at hl 0 rfl) ?_
                refine lv_iload_n hx hb dX0_remains_116 rfl (lv_at hl 5 rfl) ?_
                obtain ⟨n0, f0, hM0, hi0, hw⟩ := hw
                refine z_dald hC hZ hM0 hi0 dX0_remains_117 ?_
                generalize f0 _ = v78 at hw ⊢
                obtain ⟨hnf, hw⟩ := hw
                refine lv_drem hx hb dX0_remains_118 hnf ?_
                refine lv_ldc2d hx hb hown (hts _ q1672) dX0_remains_119 ?_
                obtain ⟨hnf, hw⟩ := hw
                refine lv_dmul hx hb dX0_remains_122 hnf ?_
                refine lv_d2l hx hb dX0_remains_123 ?_
                exact z_lret hG hZ hk hn hw dX0_remains_124
              · replace hw := hw.2 c82
                refine z_aload hC dX0_remains_81 (lv_at hl 0 rfl) ?_
                obtain ⟨hc0, hw⟩ := hw
                refine z_castAO (r := g75) (t := .float) hC hZ hc0 (Or.inr (Or.inl ⟨rfl, rfl⟩)) rfl q1657 dX0_remains_83 ?_
                refine z_astore (i := 5) (lv' := [(5, va_rf g75), (4, va_rf g75), (0, .ref o), (1, .int a0), (2, .int a1), (3, .int a2)]) hC dX0_remains_86 hl (by decide) (zfc rfl (zfk (zfa rfl) (zfk rfl (zfk rfl (zfk rfl (zfk rfl rfl)))))) (fun ls hl1 => ?_)
                replace hl := hl1
                clear hl1
                refine z_aload hC dX0_remains_88 (lv_at hl 0 rfl) ?_
                refine lv_iload_n hx hb dX0_remains_90 rfl (lv_at hl 4 rfl) ?_
                obtain ⟨b79, hr0, hw⟩ := hw
                subst hr0
                obtain ⟨n0, f0, hM0, hi0, hw⟩ := hw
                refine z_fald hC hZ hM0 hi0 dX0_remains_91 ?_
                generalize f0 _ = v80 at hw ⊢
                refine lv_aload hx hb dX0_remains_92 (lv_at hl 0 rfl) ?_
                refine lv_iload_n hx hb dX0_remains_94 rfl (lv_at hl 5 rfl) ?_
                obtain ⟨n0, f0, hM0, hi0, hw⟩ := hw
                refine z_fald hC hZ hM0 hi0 dX0_remains_95 ?_
                generalize f0 _ = v81 at hw ⊢
                obtain ⟨hnf, hw⟩ := hw
                refine lv_frem hx hb dX0_remains_96 hnf ?_
                refine z_ldcwf hC q1671 dX0_remains_97 ?_
                obtain ⟨hnf, hw⟩ := hw
                refine lv_fmul hx hb dX0_remains_100 hnf ?_
                refine lv_f2l hx hb dX0_remains_101 ?_
                exact z_lret hG hZ hk hn hw dX0_remains_102
            · refine z_instANO (r := g75) (t1 := .long) (t2 := .double) hC hZ hc0 (Or.inl ⟨rfl, rfl⟩) (Or.inr (Or.inr ⟨rfl, rfl⟩)) (by decide) (by decide) q1657 dX0_remains_75 ?_
              refine lv_if_eq (tgt := 103) hx hb dX0_remains_78 (by decide) (fun c89 => ?_) (fun c89 => ?_)
              · replace hw := hw.1 c89
                refine z_aload hC dX0_remains_103 (lv_at hl 0 rfl) ?_
                obtain ⟨hc0, hw⟩ := hw
                refine z_castAO (r := g75) (t := .double) hC hZ hc0 (Or.inr (Or.inr ⟨rfl, rfl⟩)) rfl q1658 dX0_remains_105 ?_
                refine z_astore (i := 5) (lv' := [(5, va_rf g75), (4, va_rf g75), (0, .ref o), (1, .int a0), (2, .int a1), (3, .int a2)]) hC dX0_remains_108 hl (by decide) (zfc rfl (zfk (zfa rfl) (zfk rfl (zfk rfl (zfk rfl (zfk rfl rfl)))))) (fun ls hl1 => ?_)
                replace hl := hl1
                clear hl1
                refine z_aload hC dX0_remains_110 (lv_at hl 0 rfl) ?_
                refine lv_iload_n hx hb dX0_remains_112 rfl (lv_at hl 4 rfl) ?_
                obtain ⟨b83, hr0, hw⟩ := hw
                subst hr0
                obtain ⟨n0, f0, hM0, hi0, hw⟩ := hw
                refine z_dald hC hZ hM0 hi0 dX0_remains_113 ?_
                generalize f0 _ = v84 at hw ⊢
                refine lv_aload hx hb dX0_remains_114 (lv_at hl 0 rfl) ?_
                refine lv_iload_n hx hb dX0_remains_116 rfl (lv_at hl 5 rfl) ?_
                obtain ⟨n0, f0, hM0, hi0, hw⟩ := hw
                refine z_dald hC hZ hM0 hi0 dX0_remains_117 ?_
                generalize f0 _ = v85 at hw ⊢
                obtain ⟨hnf, hw⟩ := hw
                refine lv_drem hx hb dX0_remains_118 hnf ?_
                refine lv_ldc2d hx hb hown (hts _ q1672) dX0_remains_119 ?_
                obtain ⟨hnf, hw⟩ := hw
                refine lv_dmul hx hb dX0_remains_122 hnf ?_
                refine lv_d2l hx hb dX0_remains_123 ?_
                exact z_lret hG hZ hk hn hw dX0_remains_124
              · replace hw := hw.2 c89
                refine z_aload hC dX0_remains_81 (lv_at hl 0 rfl) ?_
                obtain ⟨hc0, hw⟩ := hw
                refine z_castAO (r := g75) (t := .float) hC hZ hc0 (Or.inr (Or.inl ⟨rfl, rfl⟩)) rfl q1657 dX0_remains_83 ?_
                refine z_astore (i := 5) (lv' := [(5, va_rf g75), (4, va_rf g75), (0, .ref o), (1, .int a0), (2, .int a1), (3, .int a2)]) hC dX0_remains_86 hl (by decide) (zfc rfl (zfk (zfa rfl) (zfk rfl (zfk rfl (zfk rfl (zfk rfl rfl)))))) (fun ls hl1 => ?_)
                replace hl := hl1
                clear hl1
                refine z_aload hC dX0_remains_88 (lv_at hl 0 rfl) ?_
                refine lv_iload_n hx hb dX0_remains_90 rfl (lv_at hl 4 rfl) ?_
                obtain ⟨b86, hr0, hw⟩ := hw
                subst hr0
                obtain ⟨n0, f0, hM0, hi0, hw⟩ := hw
                refine z_fald hC hZ hM0 hi0 dX0_remains_91 ?_
                generalize f0 _ = v87 at hw ⊢
                refine lv_aload hx hb dX0_remains_92 (lv_at hl 0 rfl) ?_
                refine lv_iload_n hx hb dX0_remains_94 rfl (lv_at hl 5 rfl) ?_
                obtain ⟨n0, f0, hM0, hi0, hw⟩ := hw
                refine z_fald hC hZ hM0 hi0 dX0_remains_95 ?_
                generalize f0 _ = v88 at hw ⊢
                obtain ⟨hnf, hw⟩ := hw
                refine lv_frem hx hb dX0_remains_96 hnf ?_
                refine z_ldcwf hC q1671 dX0_remains_97 ?_
                obtain ⟨hnf, hw⟩ := hw
                refine lv_fmul hx hb dX0_remains_100 hnf ?_
                refine lv_f2l hx hb dX0_remains_101 ?_
                exact z_lret hG hZ hk hn hw dX0_remains_102
          · replace hw := hw.2 c93
            refine z_aload hC dX0_remains_56 (lv_at hl 0 rfl) ?_
            obtain ⟨hc0, hw⟩ := hw
            refine z_castAO (r := g75) (t := .long) hC hZ hc0 (Or.inl ⟨rfl, rfl⟩) rfl q1656 dX0_remains_58 ?_
            refine z_astore (i := 5) (lv' := [(5, va_rf g75), (4, va_rf g75), (0, .ref o), (1, .int a0), (2, .int a1), (3, .int a2)]) hC dX0_remains_61 hl (by decide) (zfc rfl (zfk (zfa rfl) (zfk rfl (zfk rfl (zfk rfl (zfk rfl rfl)))))) (fun ls hl1 => ?_)
            replace hl := hl1
            clear hl1
            refine z_aload hC dX0_remains_63 (lv_at hl 0 rfl) ?_
            refine lv_iload_n hx hb dX0_remains_65 rfl (lv_at hl 4 rfl) ?_
            obtain ⟨b90, hr0, hw⟩ := hw
            subst hr0
            obtain ⟨n0, f0, hM0, hi0, hw⟩ := hw
            refine z_lald hC hZ hM0 hi0 dX0_remains_66 ?_
            generalize f0 _ = v91 at hw ⊢
            refine lv_aload hx hb dX0_remains_67 (lv_at hl 0 rfl) ?_
            refine lv_iload_n hx hb dX0_remains_69 rfl (lv_at hl 5 rfl) ?_
            obtain ⟨n0, f0, hM0, hi0, hw⟩ := hw
            refine z_lald hC hZ hM0 hi0 dX0_remains_70 ?_
            generalize f0 _ = v92 at hw ⊢
            obtain ⟨hz0, hw⟩ := hw
            refine lv_lrem hx hb dX0_remains_71 hz0 ?_
            exact z_lret hG hZ hk hn hw dX0_remains_72
        · refine z_instANO (r := g75) (t1 := .float) (t2 := .double) hC hZ hc0 (Or.inr (Or.inl ⟨rfl, rfl⟩)) (Or.inr (Or.inr ⟨rfl, rfl⟩)) (by decide) (by decide) q1656 dX0_remains_50 ?_
          refine lv_if_eq (tgt := 73) hx hb dX0_remains_53 (by decide) (fun c111 => ?_) (fun c111 => ?_)
          · replace hw := hw.1 c111
            refine z_aload hC dX0_remains_73 (lv_at hl 0 rfl) ?_
            rcases hw with ⟨w0, x0, hr0, hb0, hM0, hw⟩ | ⟨hc0, hw⟩
            · refine z_instAYO (r := g75) (t := .float) hC hZ hr0 hM0 hb0 (Or.inr (Or.inl ⟨rfl, rfl⟩)) rfl q1657 dX0_remains_75 ?_
              refine lv_if_eq (tgt := 103) hx hb dX0_remains_78 (by decide) (fun c100 => ?_) (fun c100 => ?_)
              · replace hw := hw.1 c100
                refine z_aload hC dX0_remains_103 (lv_at hl 0 rfl) ?_
                obtain ⟨hc0, hw⟩ := hw
                refine z_castAO (r := g75) (t := .double) hC hZ hc0 (Or.inr (Or.inr ⟨rfl, rfl⟩)) rfl q1658 dX0_remains_105 ?_
                refine z_astore (i := 5) (lv' := [(5, va_rf g75), (4, va_rf g75), (0, .ref o), (1, .int a0), (2, .int a1), (3, .int a2)]) hC dX0_remains_108 hl (by decide) (zfc rfl (zfk (zfa rfl) (zfk rfl (zfk rfl (zfk rfl (zfk rfl rfl)))))) (fun ls hl1 => ?_)
                replace hl := hl1
                clear hl1
                refine z_aload hC dX0_remains_110 (lv_at hl 0 rfl) ?_
                refine lv_iload_n hx hb dX0_remains_112 rfl (lv_at hl 4 rfl) ?_
                obtain ⟨b94, hr0, hw⟩ := hw
                subst hr0
                obtain ⟨n0, f0, hM0, hi0, hw⟩ := hw
                refine z_dald hC hZ hM0 hi0 dX0_remains_113 ?_
                generalize f0 _ = v95 at hw ⊢
                refine lv_aload hx hb dX0_remains_114 (lv_at hl 0 rfl) ?_
                refine lv_iload_n hx hb dX0_remains_116 rfl (lv_at hl 5 rfl) ?_
                obtain ⟨n0, f0, hM0, hi0, hw⟩ := hw
                refine z_dald hC hZ hM0 hi0 dX0_remains_117 ?_
                generalize f0 _ = v96 at hw ⊢
                obtain ⟨hnf, hw⟩ := hw
                refine lv_drem hx hb dX0_remains_118 hnf ?_
                refine lv_ldc2d hx hb hown (hts _ q1672) dX0_remains_119 ?_
                obtain ⟨hnf, hw⟩ := hw
                refine lv_dmul hx hb dX0_remains_122 hnf ?_
                refine lv_d2l hx hb dX0_remains_123 ?_
                exact z_lret hG hZ hk hn hw dX0_remains_124
              · replace hw := hw.2 c100
                refine z_aload hC dX0_remains_81 (lv_at hl 0 rfl) ?_
                obtain ⟨hc0, hw⟩ := hw
                refine z_castAO (r := g75) (t := .float) hC hZ hc0 (Or.inr (Or.inl ⟨rfl, rfl⟩)) rfl q1657 dX0_remains_83 ?_
                refine z_astore (i := 5) (lv' := [(5, va_rf g75), (4, va_rf g75), (0, .ref o), (1, .int a0), (2, .int a1), (3, .int a2)]) hC dX0_remains_86 hl (by decide) (zfc rfl (zfk (zfa rfl) (zfk rfl (zfk rfl (zfk rfl (zfk rfl rfl)))))) (fun ls hl1 => ?_)
                replace hl := hl1
                clear hl1
                refine z_aload hC dX0_remains_88 (lv_at hl 0 rfl) ?_
                refine lv_iload_n hx hb dX0_remains_90 rfl (lv_at hl 4 rfl) ?_
                obtain ⟨b97, hr0, hw⟩ := hw
                subst hr0
                obtain ⟨n0, f0, hM0, hi0, hw⟩ := hw
                refine z_fald hC hZ hM0 hi0 dX0_remains_91 ?_
                generalize f0 _ = v98 at hw ⊢
                refine lv_aload hx hb dX0_remains_92 (lv_at hl 0 rfl) ?_
                refine lv_iload_n hx hb dX0_remains_94 rfl (lv_at hl 5 rfl) ?_
                obtain ⟨n0, f0, hM0, hi0, hw⟩ := hw
                refine z_fald hC hZ hM0 hi0 dX0_remains_95 ?_
                generalize f0 _ = v99 at hw ⊢
                obtain ⟨hnf, hw⟩ := hw
                refine lv_frem hx hb dX0_remains_96 hnf ?_
                refine z_ldcwf hC q1671 dX0_remains_97 ?_
                obtain ⟨hnf, hw⟩ := hw
                refine lv_fmul hx hb dX0_remains_100 hnf ?_
                refine lv_f2l hx hb dX0_remains_101 ?_
                exact z_lret hG hZ hk hn hw dX0_remains_102
            · refine z_instANO (r := g75) (t1 := .long) (t2 := .double) hC hZ hc0 (Or.inl ⟨rfl, rfl⟩) (Or.inr (Or.inr ⟨rfl, rfl⟩)) (by decide) (by decide) q1657 dX0_remains_75 ?_
              refine lv_if_eq (tgt := 103) hx hb dX0_remains_78 (by decide) (fun c107 => ?_) (fun c107 => ?_)
              · replace hw := hw.1 c107
                refine z_aload hC dX0_remains_103 (lv_at hl 0 rfl) ?_
                obtain ⟨hc0, hw⟩ := hw
                refine z_castAO (r := g75) (t := .double) hC hZ hc0 (Or.inr (Or.inr ⟨rfl, rfl⟩)) rfl q1658 dX0_remains_105 ?_
                refine z_astore (i := 5) (lv' := [(5, va_rf g75), (4, va_rf g75), (0, .ref o), (1, .int a0), (2, .int a1), (3, .int a2)]) hC dX0_remains_108 hl (by decide) (zfc rfl (zfk (zfa rfl) (zfk rfl (zfk rfl (zfk rfl (zfk rfl rfl)))))) (fun ls hl1 => ?_)
                replace hl := hl1
                clear hl1
                refine z_aload hC dX0_remains_110 (lv_at hl 0 rfl) ?_
                refine lv_iload_n hx hb dX0_remains_112 rfl (lv_at hl 4 rfl) ?_
                obtain ⟨b101, hr0, hw⟩ := hw
                subst hr0
                obtain ⟨n0, f0, hM0, hi0, hw⟩ := hw
                refine z_dald hC hZ hM0 hi0 dX0_remains_113 ?_
                generalize f0 _ = v102 at hw ⊢
                refine lv_aload hx hb dX0_remains_114 (lv_at hl 0 rfl) ?_
                refine lv_iload_n hx hb dX0_remains_116 rfl (lv_at hl 5 rfl) ?_
                obtain ⟨n0, f0, hM0, hi0, hw⟩ := hw
                refine z_dald hC hZ hM0 hi0 dX0_remains_117 ?_
                generalize f0 _ = v103 at hw ⊢
                obtain ⟨hnf, hw⟩ := hw
                refine lv_drem hx hb dX0_remains_118 hnf ?_
                refine lv_ldc2d hx hb hown (hts _ q1672) dX0_remains_119 ?_
                obtain ⟨hnf, hw⟩ := hw
                refine lv_dmul hx hb dX0_remains_122 hnf ?_
                refine lv_d2l hx hb dX0_remains_123 ?_
                exact z_lret hG hZ hk hn hw dX0_remains_124
              · replace hw := hw.2 c107
                refine z_aload hC dX0_remains_81 (lv_at hl 0 rfl) ?_
                obtain ⟨hc0, hw⟩ := hw
                refine z_castAO (r := g75) (t := .float) hC hZ hc0 (Or.inr (Or.inl ⟨rfl, rfl⟩)) rfl q1657 dX0_remains_83 ?_
                refine z_astore (i := 5) (lv' := [(5, va_rf g75), (4, va_rf g75), (0, .ref o), (1, .int a0), (2, .int a1), (3, .int a2)]) hC dX0_remains_86 hl (by decide) (zfc rfl (zfk (zfa rfl) (zfk rfl (zfk rfl (zfk rfl (zfk rfl rfl)))))) (fun ls hl1 => ?_)
                replace hl := hl1
                clear hl1
                refine z_aload hC dX0_remains_88 (lv_at hl 0 rfl) ?_
                refine lv_iload_n hx hb dX0_remains_90 rfl (lv_at hl 4 rfl) ?_
                obtain ⟨b104, hr0, hw⟩ := hw
                subst hr0
                obtain ⟨n0, f0, hM0, hi0, hw⟩ := hw
                refine z_fald hC hZ hM0 hi0 dX0_remains_91 ?_
                generalize f0 _ = v105 at hw ⊢
                refine lv_aload hx hb dX0_remains_92 (lv_at hl 0 rfl) ?_
                refine lv_iload_n hx hb dX0_remains_94 rfl (lv_at hl 5 rfl) ?_
                obtain ⟨n0, f0, hM0, hi0, hw⟩ := hw
                refine z_fald hC hZ hM0 hi0 dX0_remains_95 ?_
                generalize f0 _ = v106 at hw ⊢
                obtain ⟨hnf, hw⟩ := hw
                refine lv_frem hx hb dX0_remains_96 hnf ?_
                refine z_ldcwf hC q1671 dX0_remains_97 ?_
                obtain ⟨hnf, hw⟩ := hw
                refine lv_fmul hx hb dX0_remains_100 hnf ?_
                refine lv_f2l hx hb dX0_remains_101 ?_
                exact z_lret hG hZ hk hn hw dX0_remains_102
          · replace hw := hw.2 c111
            refine z_aload hC dX0_remains_56 (lv_at hl 0 rfl) ?_
            obtain ⟨hc0, hw⟩ := hw
            refine z_castAO (r := g75) (t := .long) hC hZ hc0 (Or.inl ⟨rfl, rfl⟩) rfl q1656 dX0_remains_58 ?_
            refine z_astore (i := 5) (lv' := [(5, va_rf g75), (4, va_rf g75), (0, .ref o), (1, .int a0), (2, .int a1), (3, .int a2)]) hC dX0_remains_61 hl (by decide) (zfc rfl (zfk (zfa rfl) (zfk rfl (zfk rfl (zfk rfl (zfk rfl rfl)))))) (fun ls hl1 => ?_)
            replace hl := hl1
            clear hl1
            refine z_aload hC dX0_remains_63 (lv_at hl 0 rfl) ?_
            refine lv_iload_n hx hb dX0_remains_65 rfl (lv_at hl 4 rfl) ?_
            obtain ⟨b108, hr0, hw⟩ := hw
            subst hr0
            obtain ⟨n0, f0, hM0, hi0, hw⟩ := hw
            refine z_lald hC hZ hM0 hi0 dX0_remains_66 ?_
            generalize f0 _ = v109 at hw ⊢
            refine lv_aload hx hb dX0_remains_67 (lv_at hl 0 rfl) ?_
            refine lv_iload_n hx hb dX0_remains_69 rfl (lv_at hl 5 rfl) ?_
            obtain ⟨n0, f0, hM0, hi0, hw⟩ := hw
            refine z_lald hC hZ hM0 hi0 dX0_remains_70 ?_
            generalize f0 _ = v110 at hw ⊢
            obtain ⟨hz0, hw⟩ := hw
            refine lv_lrem hx hb dX0_remains_71 hz0 ?_
            exact z_lret hG hZ hk hn hw dX0_remains_72
      · replace hw := hw.2 c112
        exact wk_X0_remains_L33 hG _ hk hn hZ (lv_sub hl [] rfl) hw
abbrev rm_X0_rowOf (K N : Nat) : Room := { frames := 12, cells := K, slots := N, locals := 10400 }
def wp_X0_rowOf (D : zD) (post : Option Nat → zM → Prop) (xp : Nat → zM → Prop) (k : Nat) (n : Nat) (a0 : Int32) (a1 : Int32) (M : zM) : Prop :=
    ((a0 = 0 → ((¬ a1 < 0 → (znewA D M 3 a1 k n fun b1 M => post (some b1) M)) ∧ (a1 < 0 → (znewX D M 29 k n 3 60 fun q M => xp q M)))) ∧ (a0 = 1 → ((¬ a1 < 0 → (znewA D M 4 a1 k n fun b2 M => post (some b2) M)) ∧ (a1 < 0 → (znewX D M 29 k n 3 60 fun q M => xp q M)))) ∧ (a0 = 2 → ((¬ a1 < 0 → (znewA D M 2 a1 k n fun b3 M => post (some b3) M)) ∧ (a1 < 0 → (znewX D M 29 k n 3 60 fun q M => xp q M)))) ∧ (¬ a0 = 0 ∧ ¬ a0 = 1 ∧ ¬ a0 = 2 → post none M))
set_option maxHeartbeats 4000000 in
set_option maxRecDepth 100000 in
theorem w_X0_rowOf {l : Launch} {D : zD} {post : Option Nat → zM → Prop} {xp : Nat → zM → Prop} (hlt : l.stackTraces = false) {k : Nat} {n : Nat} {a0 : Int32} {a1 : Int32} {M : zM} (hw : wp_X0_rowOf D post xp k n a0 a1 M) : zMet l D yX0_rowOf (ws_ yX0_rowOf cX0_rowOf 2 (some (.object "java/lang/Object"))) (rm_X0_rowOf k n) k n [.int a0, .int a1] M zR post xp := by
  unfold wp_X0_rowOf at hw
  have hlv : lv_args 0 [.int a0, .int a1] = [(0, .int a0), (1, .int a1)] := (zargs1 rfl (zargs1 rfl rfl))
  refine z_ofW hlt (by decide) (Nat.le_trans (zsl1 rfl (zsl1 rfl (Nat.le_refl 0 : (lg_sl []).length ≤ 0))) (Nat.le_of_ble_eq_true rfl)) hlv ?_
  intro p e s m args below meth c ls hG hZ hl
  have hC := hG.1
  have hx := hC.x
  have hb := hC.b
  have hown := hC.o
  have hts := hC.ts
  have hlt := hG.2.2.2.2.2
  obtain ⟨cells, hce⟩ : ∃ z : Nat, z = 0 := ⟨0, rfl⟩
  obtain ⟨slots, hsl⟩ : ∃ z : Nat, z = 0 := ⟨0, rfl⟩
  refine W.cs (cells' := cells) (slots' := slots) hce.symm hsl.symm ?_
  have hk : cells + k ≤ k := by omega
  have hn : slots + n ≤ n := by omega
  clear hce hsl
  refine lv_iload_n hx hb dX0_rowOf_0 rfl (lv_at hl 0 rfl) ?_
  by_cases e10 : a0 = 0
  · replace hw := hw.1 e10
    refine lv_tableIn (tgt := 28) (off := 27) hx hb dX0_rowOf_1 (by rw [e10]; decide) (by rw [e10]; decide) (by rw [e10]; decide) (by decide) ?_
    refine lv_iload_n hx hb dX0_rowOf_28 rfl (lv_at hl 1 rfl) ?_
    by_cases hz0 : a1 < 0
    · replace hw := hw.2 hz0
      refine vx_newarrayZ hx hb hz0 dX0_rowOf_29 (fun tx htx => ?_)
      obtain ⟨hk1, hn1, hw⟩ := hw
      refine z_vm29 hG hZ hl.1 htx hz0 (Nat.le_trans zrm0 (Nat.le_of_ble_eq_true rfl)) (Nat.le_of_ble_eq_true rfl) (Nat.le_of_ble_eq_true rfl) (show cells + 3 ≤ k by omega) (show slots + 60 ≤ n by omega) (fun q H hq0 hb1 hZ => ?_)
      replace hw := hw q hq0 hb1
      have hM1 : zu M q (some (.inr (29, []))) q = some (.inr (29, [])) := zu_s
      generalize zu M _ _ = M at hw hZ hM1
      have hc1 := zc29.1
      have hk : cells + 3 + (k - 3) ≤ k := by omega
      have hn : slots + 60 + (n - 60) ≤ n := by omega
      generalize cells + 3 = cells at hk ⊢
      generalize slots + 60 = slots at hn ⊢
      clear hk1 hn1
      obtain ⟨ci, hci⟩ : ∃ z, z = 29 := ⟨_, rfl⟩
      rw [← hci] at hM1 hc1
      obtain ⟨fs, hfs⟩ : ∃ z : List Value, z = [] := ⟨_, rfl⟩
      rw [← hfs] at hM1
      exact z_out hG hZ hM1 hb1 hc1 za0 (by omega) (by omega) hw
    · replace hw := hw.1 hz0
      obtain ⟨hx1, hx2, hk1, hn1, hw⟩ := hw
      refine z_newa (k := 3) (a0 := zna 3 a1.toNatClampNeg) (atype := .float) hC hZ q1638 rfl (by decide) (fun _ => rfl) hx1 rfl (z_bytes hx2 (by decide)) (show cells + 1 ≤ k by omega) (show slots + a1.toNatClampNeg ≤ n by omega) dX0_rowOf_29 (fun b7 H hq0 hq1 hZ => ?_)
      replace hw := hw b7 hq0 hq1
      replace hZ : zS D (zu M b7 (some (.inl (3, zna 3 a1.toNatClampNeg)))) _ _ := hZ
      refine W.cs (cells' := cells + 1) (slots' := slots + a1.toNatClampNeg) rfl rfl ?_
      generalize zu M _ _ = M at hw hZ
      have hk : cells + 1 + (k - 1) ≤ k := by omega
      have hn : slots + a1.toNatClampNeg + (n - a1.toNatClampNeg) ≤ n := by omega
      generalize cells + 1 = cells at hk ⊢
      generalize slots + a1.toNatClampNeg = slots at hn ⊢
      clear hk1 hn1 hx1 hx2
      exact z_aret (r := (some b7)) hG (Or.inl ⟨_, rfl⟩) hZ (by omega) (by omega) hw dX0_rowOf_31
  by_cases e11 : a0 = 1
  · replace hw := hw.2.1 e11
    refine lv_tableIn (tgt := 32) (off := 31) hx hb dX0_rowOf_1 (by rw [e11]; decide) (by rw [e11]; decide) (by rw [e11]; decide) (by decide) ?_
    refine lv_iload_n hx hb dX0_rowOf_32 rfl (lv_at hl 1 rfl) ?_
    by_cases hz0 : a1 < 0
    · replace hw := hw.2 hz0
      refine vx_newarrayZ hx hb hz0 dX0_rowOf_33 (fun tx htx => ?_)
      obtain ⟨hk1, hn1, hw⟩ := hw
      refine z_vm29 hG hZ hl.1 htx hz0 (Nat.le_trans zrm0 (Nat.le_of_ble_eq_true rfl)) (Nat.le_of_ble_eq_true rfl) (Nat.le_of_ble_eq_true rfl) (show cells + 3 ≤ k by omega) (show slots + 60 ≤ n by omega) (fun q H hq0 hb1 hZ => ?_)
      replace hw := hw q hq0 hb1
      have hM1 : zu M q (some (.inr (29, []))) q = some (.inr (29, [])) := zu_s
      generalize zu M _ _ = M at hw hZ hM1
      have hc1 := zc29.1
      have hk : cells + 3 + (k - 3) ≤ k := by omega
      have hn : slots + 60 + (n - 60) ≤ n := by omega
      generalize cells + 3 = cells at hk ⊢
      generalize slots + 60 = slots at hn ⊢
      clear hk1 hn1
      obtain ⟨ci, hci⟩ : ∃ z, z = 29 := ⟨_, rfl⟩
      rw [← hci] at hM1 hc1
      obtain ⟨fs, hfs⟩ : ∃ z : List Value, z = [] := ⟨_, rfl⟩
      rw [← hfs] at hM1
      exact z_out hG hZ hM1 hb1 hc1 za0 (by omega) (by omega) hw
    · replace hw := hw.1 hz0
      obtain ⟨hx1, hx2, hk1, hn1, hw⟩ := hw
      refine z_newa (k := 4) (a0 := zna 4 a1.toNatClampNeg) (atype := .double) hC hZ q1639 rfl (by decide) (fun _ => rfl) hx1 rfl (z_bytes hx2 (by decide)) (show cells + 1 ≤ k by omega) (show slots + a1.toNatClampNeg ≤ n by omega) dX0_rowOf_33 (fun b8 H hq0 hq1 hZ => ?_)
      replace hw := hw b8 hq0 hq1
      replace hZ : zS D (zu M b8 (some (.inl (4, zna 4 a1.toNatClampNeg)))) _ _ := hZ
      refine W.cs (cells' := cells + 1) (slots' := slots + a1.toNatClampNeg) rfl rfl ?_
      generalize zu M _ _ = M at hw hZ
      have hk : cells + 1 + (k - 1) ≤ k := by omega
      have hn : slots + a1.toNatClampNeg + (n - a1.toNatClampNeg) ≤ n := by omega
      generalize cells + 1 = cells at hk ⊢
      generalize slots + a1.toNatClampNeg = slots at hn ⊢
      clear hk1 hn1 hx1 hx2
      exact z_aret (r := (some b8)) hG (Or.inl ⟨_, rfl⟩) hZ (by omega) (by omega) hw dX0_rowOf_35
  by_cases e12 : a0 = 2
  · replace hw := hw.2.2.1 e12
    refine lv_tableIn (tgt := 36) (off := 35) hx hb dX0_rowOf_1 (by rw [e12]; decide) (by rw [e12]; decide) (by rw [e12]; decide) (by decide) ?_
    refine lv_iload_n hx hb dX0_rowOf_36 rfl (lv_at hl 1 rfl) ?_
    by_cases hz0 : a1 < 0
    · replace hw := hw.2 hz0
      refine vx_newarrayZ hx hb hz0 dX0_rowOf_37 (fun tx htx => ?_)
      obtain ⟨hk1, hn1, hw⟩ := hw
      refine z_vm29 hG hZ hl.1 htx hz0 (Nat.le_trans zrm0 (Nat.le_of_ble_eq_true rfl)) (Nat.le_of_ble_eq_true rfl) (Nat.le_of_ble_eq_true rfl) (show cells + 3 ≤ k by omega) (show slots + 60 ≤ n by omega) (fun q H hq0 hb1 hZ => ?_)
      replace hw := hw q hq0 hb1
      have hM1 : zu M q (some (.inr (29, []))) q = some (.inr (29, [])) := zu_s
      generalize zu M _ _ = M at hw hZ hM1
      have hc1 := zc29.1
      have hk : cells + 3 + (k - 3) ≤ k := by omega
      have hn : slots + 60 + (n - 60) ≤ n := by omega
      generalize cells + 3 = cells at hk ⊢
      generalize slots + 60 = slots at hn ⊢
      clear hk1 hn1
      obtain ⟨ci, hci⟩ : ∃ z, z = 29 := ⟨_, rfl⟩
      rw [← hci] at hM1 hc1
      obtain ⟨fs, hfs⟩ : ∃ z : List Value, z = [] := ⟨_, rfl⟩
      rw [← hfs] at hM1
      exact z_out hG hZ hM1 hb1 hc1 za0 (by omega) (by omega) hw
    · replace hw := hw.1 hz0
      obtain ⟨hx1, hx2, hk1, hn1, hw⟩ := hw
      refine z_newa (k := 2) (a0 := zna 2 a1.toNatClampNeg) (atype := .long) hC hZ q1640 rfl (by decide) (fun _ => rfl) hx1 rfl (z_bytes hx2 (by decide)) (show cells + 1 ≤ k by omega) (show slots + a1.toNatClampNeg ≤ n by omega) dX0_rowOf_37 (fun b9 H hq0 hq1 hZ => ?_)
      replace hw := hw b9 hq0 hq1
      replace hZ : zS D (zu M b9 (some (.inl (2, zna 2 a1.toNatClampNeg)))) _ _ := hZ
      refine W.cs (cells' := cells + 1) (slots' := slots + a1.toNatClampNeg) rfl rfl ?_
      generalize zu M _ _ = M at hw hZ
      have hk : cells + 1 + (k - 1) ≤ k := by omega
      have hn : slots + a1.toNatClampNeg + (n - a1.toNatClampNeg) ≤ n := by omega
      generalize cells + 1 = cells at hk ⊢
      generalize slots + a1.toNatClampNeg = slots at hn ⊢
      clear hk1 hn1 hx1 hx2
      exact z_aret (r := (some b9)) hG (Or.inl ⟨_, rfl⟩) hZ (by omega) (by omega) hw dX0_rowOf_39
  replace hw := hw.2.2.2 ⟨e10, e11, e12⟩
  refine z_tableK (tgt := 40) (S := [0, 1, 2]) hx hb dX0_rowOf_1 (by decide) (by decide) (by decide) (zal (lv_neT e10 (by decide)) (zal (lv_neT e11 (by decide)) (zal (lv_neT e12 (by decide)) (za0)))) ?_
  refine z_null hC dX0_rowOf_40 ?_
  exact z_aret (r := none) hG (Or.inl ⟨_, rfl⟩) hZ (by omega) (by omega) hw dX0_rowOf_41
abbrev rm_X0_row (K N : Nat) : Room := { frames := 13, cells := K, slots := N, locals := 10421 }
def wp_X0_row_L31 (D : zD) (post : Int32 → zM → Prop) (o : Nat) (k : Nat) (n : Nat) (M : zM) : Prop :=
    post (-1 : Int32) M
set_option maxHeartbeats 4000000 in
set_option maxRecDepth 100000 in
theorem wk_X0_row_L31 {p : Program} {l : Launch} {e : Env} {s : State} {m : MethodId} {args : Array Value} {below : List Frame} {meth : Method} {c : Code} {D : zD} {post : Int32 → zM → Prop} {K N : Nat} {o : Nat} (hG : zGx p l s m args meth c cX0_row 5 "PluralBranches" D (some .int) "row" (tableOf [(33, 48, 49, 345)])) : ∀ {H : Heap} {locs : List Loc} {cells slots : Nat} {ls : Array Slot} (k : Nat) (n : Nat) (M : zM), cells + k ≤ K → slots + n ≤ N → zS D M H locs → lv_has ls 5 [] → wp_X0_row_L31 D post o k n M → W p l e (rm_X0_row K N) s m args below meth c H locs cells slots (vx_MQ below (zQ D zI post) (zX D (fun _ _ => False)) args s K N (zA D)) (F0 m 31 ls []) := by
  have hC := hG.1
  have hx := hC.x
  have hb := hC.b
  have hown := hC.o
  have hts := hC.ts
  have hlt := hG.2.2.2.2.2
  intro H locs cells slots ls k n M hk hn hZ hl hw
  refine lv_iconst (v := (-1)) hx hb dX0_row_31 (by decide) ?_
  exact z_iret hG hZ (by omega) (by omega) hw dX0_row_32
def wp_X0_row_L49 (D : zD) (post : Int32 → zM → Prop) (o : Nat) (k : Nat) (n : Nat) (y0 : Option Nat) (M : zM) : Prop :=
    post (-14 : Int32) M
set_option maxHeartbeats 4000000 in
set_option maxRecDepth 100000 in
theorem wk_X0_row_L49 {p : Program} {l : Launch} {e : Env} {s : State} {m : MethodId} {args : Array Value} {below : List Frame} {meth : Method} {c : Code} {D : zD} {post : Int32 → zM → Prop} {K N : Nat} {o : Nat} (hG : zGx p l s m args meth c cX0_row 5 "PluralBranches" D (some .int) "row" (tableOf [(33, 48, 49, 345)])) : ∀ {H : Heap} {locs : List Loc} {cells slots : Nat} {ls : Array Slot} (k : Nat) (n : Nat) (y0 : Option Nat) (M : zM), cells + k ≤ K → slots + n ≤ N → zS D M H locs → lv_has ls 5 [] → wp_X0_row_L49 D post o k n y0 M → W p l e (rm_X0_row K N) s m args below meth c H locs cells slots (vx_MQ below (zQ D zI post) (zX D (fun _ _ => False)) args s K N (zA D)) (F0 m 49 ls [va_rf y0]) := by
  have hC := hG.1
  have hx := hC.x
  have hb := hC.b
  have hown := hC.o
  have hts := hC.ts
  have hlt := hG.2.2.2.2.2
  intro H locs cells slots ls k n y0 M hk hn hZ hl hw
  refine z_astore (i := 4) (lv' := [(4, va_rf y0)]) hC dX0_row_49 hl (by decide) rfl (fun ls hl1 => ?_)
  replace hl := hl1
  clear hl1
  refine lv_bipush (v := (-14)) hx hb dX0_row_51 (by decide) ?_
  exact z_iret hG hZ (by omega) (by omega) hw dX0_row_53
def wp_X0_row_L33 (D : zD) (post : Int32 → zM → Prop) (o : Nat) (k : Nat) (n : Nat) (x1 : Int32) (x2 : Int32) (x3 : Int32) (M : zM) : Prop :=
    (zgR M o 0 7 fun g1 => ((zd g1 fun b2 => zaR M b2 10 x1 fun v3 => ((∃ k5 n6, k5 ≤ k ∧ n6 ≤ n ∧ wp_X0_rowOf D (fun r4 M => ((zd v3 fun b7 => zp D M b7 7 0 (va_rf r4) fun M => post (1 : Int32) M))) (fun q M => (∃ fs, M q = some (.inr (29, fs))) ∧ wp_X0_row_L49 D post o (k - k5) (n - n6) (some q) M) k5 n6 x2 x3 M)))))
set_option maxHeartbeats 4000000 in
set_option maxRecDepth 100000 in
theorem wk_X0_row_L33 {p : Program} {l : Launch} {e : Env} {s : State} {m : MethodId} {args : Array Value} {below : List Frame} {meth : Method} {c : Code} {D : zD} {post : Int32 → zM → Prop} {K N : Nat} {o : Nat} (hG : zGx p l s m args meth c cX0_row 5 "PluralBranches" D (some .int) "row" (tableOf [(33, 48, 49, 345)])) : ∀ {H : Heap} {locs : List Loc} {cells slots : Nat} {ls : Array Slot} (k : Nat) (n : Nat) (x1 : Int32) (x2 : Int32) (x3 : Int32) (M : zM), cells + k ≤ K → slots + n ≤ N → zS D M H locs → lv_has ls 5 [(0, .ref o), (1, .int x1), (2, .int x2), (3, .int x3)] → wp_X0_row_L33 D post o k n x1 x2 x3 M → W p l e (rm_X0_row K N) s m args below meth c H locs cells slots (vx_MQ below (zQ D zI post) (zX D (fun _ _ => False)) args s K N (zA D)) (F0 m 33 ls []) := by
  have hC := hG.1
  have hx := hC.x
  have hb := hC.b
  have hown := hC.o
  have hts := hC.ts
  have hlt := hG.2.2.2.2.2
  intro H locs cells slots ls k n x1 x2 x3 M hk hn hZ hl hw
  refine lv_aload_n hx hb dX0_row_33 rfl (lv_at hl 0 rfl) ?_
  obtain ⟨fs0, g9, hM0, hx0, hw⟩ := hw
  refine z_get hC hZ hM0 zc0 7 (by decide) q408 (fun _ h9 => h9) hx0 dX0_row_34 ?_
  refine lv_iload_n hx hb dX0_row_37 rfl (lv_at hl 1 rfl) ?_
  obtain ⟨b10, hr0, hw⟩ := hw
  subst hr0
  obtain ⟨n0, f0, v11, hM0, hi0, hr0, hw⟩ := hw
  refine z_aald hC hZ hM0 (by decide) rfl hi0 hr0 dX0_row_38 ?_
  refine lv_iload_n hx hb dX0_row_39 rfl (lv_at hl 2 rfl) ?_
  refine lv_iload_n hx hb dX0_row_40 rfl (lv_at hl 3 rfl) ?_
  obtain ⟨k13, n14, hk1, hn1, hw⟩ := hw
  refine z_callR hZ (vx_runS (As := [.int x2, .int x3]) (rest := [va_rf v11]) hC.fix (w_X0_rowOf hlt hw) (va_cwS 2 hts (lw_S q1635 q1636 q67 q1637) rfl rfl rfl dd_X0_rowOf ⟨Nat.le_of_ble_eq_true rfl, Nat.le_of_ble_eq_true rfl⟩) (z_preS hC hZ) rfl rfl hl.1 rfl (lv_room (Nat.le_trans (zrm1 (zcat _) zrm0) (Nat.le_of_ble_eq_true rfl))) dX0_row_41 ⟨(show cells + k13 ≤ K by omega), (show slots + n14 ≤ N by omega)⟩) (fun r12 M H locs hw1 hZ => ?_) (fun q M H locs ci fs E T9 N9 hw1 hZ hc1 hM1 hb1 => ?_)
  · replace hw := hw1
    clear hw1
    have hk : cells + k13 + (k - k13) ≤ K := by omega
    have hn : slots + n14 + (n - n14) ≤ N := by omega
    generalize cells + k13 = cells at hk ⊢
    generalize slots + n14 = slots at hn ⊢
    clear hk1 hn1
    obtain ⟨b15, hr0, hw⟩ := hw
    subst hr0
    obtain ⟨fs0, hM0, hb0, hk0, hw⟩ := hw
    refine z_putN hC hZ hM0 hb0 zc7 0 (by decide) q395 (fun _ h9 => h9) (by decide) zrf_nar zrf_fit hk0 dX0_row_44 (fun H locs hZ => ?_)
    generalize zu M _ _ = M at hw hZ
    refine lv_iconst (v := 1) hx hb dX0_row_47 (by decide) ?_
    exact z_iret hG hZ (by omega) (by omega) hw dX0_row_48
  · replace hw := hw1
    clear hw1
    have hk : cells + k13 + (k - k13) ≤ K := by omega
    have hn : slots + n14 + (n - n14) ≤ N := by omega
    generalize cells + k13 = cells at hk ⊢
    generalize slots + n14 = slots at hn ⊢
    clear hk1 hn1
    obtain ⟨⟨fs9, hM9⟩, hw⟩ := hw
    obtain ⟨rfl, rfl⟩ : ci = 29 ∧ fs = fs9 := by rw [hM9] at hM1; cases hM1; exact ⟨rfl, rfl⟩
    refine z_catch hG hZ hM1 hb1 zc29.1 (tableOf []) ⟨33, 48, 49, 345⟩ (tableOf []) rfl (by decide) (by decide) (by decide) q1617 q1629 ?_
    exact wk_X0_row_L49 hG _ _ _ _ hk hn hZ (lv_sub hl [] rfl) hw
def wp_X0_row (D : zD) (post : Int32 → zM → Prop) (k : Nat) (n : Nat) (o : Nat) (a0 : Int32) (a1 : Int32) (a2 : Int32) (M : zM) : Prop :=
    (wp_X0_isRow D (fun r17 M => ((r17 = 0 → wp_X0_row_L31 D post o k n M) ∧ (¬ r17 = 0 → (wp_X0_in D (fun r20 M => ((r20 = 0 → wp_X0_row_L31 D post o k n M) ∧ (¬ r20 = 0 → ((a1 < 0 → wp_X0_row_L33 D post o k n a0 a1 a2 M) ∧ (¬ a1 < 0 → ((a2 ≤ (30 : Int32) → wp_X0_row_L33 D post o k n a0 a1 a2 M) ∧ (¬ a2 ≤ (30 : Int32) → wp_X0_row_L31 D post o k n M))))))) (a1.toInt64) (-1 : Int64) (2 : Int64) M)))) a0 M)
set_option maxHeartbeats 4000000 in
set_option maxRecDepth 100000 in
theorem w_X0_row {l : Launch} {D : zD} {post : Int32 → zM → Prop} (hlt : l.stackTraces = false) {k : Nat} {n : Nat} {o : Nat} {a0 : Int32} {a1 : Int32} {a2 : Int32} {M : zM} (hw : wp_X0_row D post k n o a0 a1 a2 M) : zMet l D yX0_row (wsW_ yX0_row cX0_row 5 (some .int) [(33, 48, 49, 345)]) (rm_X0_row k n) k n [.ref o, .int a0, .int a1, .int a2] M zI post (fun _ _ => False) := by
  unfold wp_X0_row at hw
  have hlv : lv_args 0 [.ref o, .int a0, .int a1, .int a2] = [(0, .ref o), (1, .int a0), (2, .int a1), (3, .int a2)] := (zargs1 rfl (zargs1 rfl (zargs1 rfl (zargs1 rfl rfl))))
  refine z_ofWH hlt (by decide) (Nat.le_trans (zsl1 rfl (zsl1 rfl (zsl1 rfl (zsl1 rfl (Nat.le_refl 0 : (lg_sl []).length ≤ 0))))) (Nat.le_of_ble_eq_true rfl)) hlv ?_
  intro p e s m args below meth c ls hG hZ hl
  have hC := hG.1
  have hx := hC.x
  have hb := hC.b
  have hown := hC.o
  have hts := hC.ts
  have hlt := hG.2.2.2.2.2
  obtain ⟨cells, hce⟩ : ∃ z : Nat, z = 0 := ⟨0, rfl⟩
  obtain ⟨slots, hsl⟩ : ∃ z : Nat, z = 0 := ⟨0, rfl⟩
  refine W.cs (cells' := cells) (slots' := slots) hce.symm hsl.symm ?_
  have hk : cells + k ≤ k := by omega
  have hn : slots + n ≤ n := by omega
  clear hce hsl
  refine lv_iload_n hx hb dX0_row_0 rfl (lv_at hl 1 rfl) ?_
  refine z_callI hZ (vx_runS (As := [.int a0]) (rest := []) hC.fix (w_X0_isRow hlt hw) (va_cwS 1 hts (lw_S q1631 q1632 q67 q1633) rfl rfl rfl dd_X0_isRow ⟨Nat.le_of_ble_eq_true rfl, Nat.le_of_ble_eq_true rfl⟩) (z_preS hC hZ) rfl rfl hl.1 rfl (lv_room (Nat.zero_le _)) dX0_row_1 ⟨(show cells + 0 ≤ k by omega), (show slots + 0 ≤ n by omega)⟩) (fun r27 M H locs hw1 hZ => ?_) (fun q M H locs ci fs E T9 N9 hw hZ hc1 hM1 hb1 => False.elim hw)
  replace hw := hw1
  clear hw1
  refine W.cs (cells' := cells) (slots' := slots) rfl rfl ?_
  refine lv_if_eq (tgt := 31) hx hb dX0_row_4 (by decide) (fun c36 => ?_) (fun c36 => ?_)
  · replace hw := hw.1 c36
    exact wk_X0_row_L31 hG _ _ _ hk hn hZ (lv_sub hl [] rfl) hw
  · replace hw := hw.2 c36
    refine lv_iload_n hx hb dX0_row_7 rfl (lv_at hl 2 rfl) ?_
    refine lv_i2l hx hb dX0_row_8 rfl ?_
    refine lv_ldc2 hx hb hown (hts _ q1634) dX0_row_9 ?_
    refine lv_ldc2 hx hb hown (hts _ q1188) dX0_row_12 ?_
    refine z_callI hZ (vx_runS (As := [.long (a1.toInt64), .long (-1 : Int64), .long (2 : Int64)]) (rest := []) hC.fix (w_X0_in hlt hw) (va_cwS 3 hts (lw_S q434 q435 q67 q436) rfl rfl rfl dd_X0_in ⟨Nat.le_of_ble_eq_true rfl, Nat.le_of_ble_eq_true rfl⟩) (z_preS hC hZ) rfl rfl hl.1 rfl (lv_room (Nat.zero_le _)) dX0_row_15 ⟨(show cells + 0 ≤ k by omega), (show slots + 0 ≤ n by omega)⟩) (fun r30 M H locs hw1 hZ => ?_) (fun q M H locs ci fs E T9 N9 hw hZ hc1 hM1 hb1 => False.elim hw)
    replace hw := hw1
    clear hw1
    refine W.cs (cells' := cells) (slots' := slots) rfl rfl ?_
    refine lv_if_eq (tgt := 31) hx hb dX0_row_18 (by decide) (fun c35 => ?_) (fun c35 => ?_)
    · replace hw := hw.1 c35
      exact wk_X0_row_L31 hG _ _ _ hk hn hZ (lv_sub hl [] rfl) hw
    · replace hw := hw.2 c35
      refine lv_iload_n hx hb dX0_row_21 rfl (lv_at hl 2 rfl) ?_
      refine lv_if_lt (tgt := 33) hx hb dX0_row_22 (by decide) (fun c34 => ?_) (fun c34 => ?_)
      · replace hw := hw.1 c34
        exact wk_X0_row_L33 hG _ _ _ _ _ _ hk hn hZ (lv_sub hl [0, 1, 2, 3] rfl) hw
      · replace hw := hw.2 c34
        refine lv_iload_n hx hb dX0_row_25 rfl (lv_at hl 3 rfl) ?_
        refine lv_bipush (v := 30) hx hb dX0_row_26 (by decide) ?_
        refine lv_icmp_le (tgt := 33) hx hb dX0_row_28 (by decide) (fun c33 => ?_) (fun c33 => ?_)
        · replace hw := hw.1 c33
          exact wk_X0_row_L33 hG _ _ _ _ _ _ hk hn hZ (lv_sub hl [0, 1, 2, 3] rfl) hw
        · replace hw := hw.2 c33
          exact wk_X0_row_L31 hG _ _ _ hk hn hZ (lv_sub hl [] rfl) hw
abbrev rm_X0_same : Room := { frames := 3, cells := 0, slots := 0, locals := 109 }
def wp_X0_same_L14 (D : zD) (post : Int32 → zM → Prop) (o : Nat) (M : zM) : Prop :=
    post (-1 : Int32) M
set_option maxHeartbeats 4000000 in
set_option maxRecDepth 100000 in
theorem wk_X0_same_L14 {p : Program} {l : Launch} {e : Env} {s : State} {m : MethodId} {args : Array Value} {below : List Frame} {meth : Method} {c : Code} {D : zD} {post : Int32 → zM → Prop} {o : Nat} (hG : zGx p l s m args meth c cX0_same 7 "PluralBranches" D (some .int) "same" []) : ∀ {H : Heap} {locs : List Loc} {cells slots : Nat} {ls : Array Slot} (M : zM), cells ≤ 0 → slots ≤ 0 → zS D M H locs → lv_has ls 7 [] → wp_X0_same_L14 D post o M → W p l e rm_X0_same s m args below meth c H locs cells slots (vx_MQ below (zQ D zI post) (zX D (fun _ _ => False)) args s 0 0 (zA D)) (F0 m 14 ls []) := by
  have hC := hG.1
  have hx := hC.x
  have hb := hC.b
  have hown := hC.o
  have hts := hC.ts
  have hlt := hG.2.2.2.2.2
  intro H locs cells slots ls M hk hn hZ hl hw
  refine lv_iconst (v := (-1)) hx hb dX0_same_14 (by decide) ?_
  exact z_iret hG hZ hk hn hw dX0_same_15
def wp_X0_same_L40 (D : zD) (post : Int32 → zM → Prop) (o : Nat) (M : zM) : Prop :=
    post (-2 : Int32) M
set_option maxHeartbeats 4000000 in
set_option maxRecDepth 100000 in
theorem wk_X0_same_L40 {p : Program} {l : Launch} {e : Env} {s : State} {m : MethodId} {args : Array Value} {below : List Frame} {meth : Method} {c : Code} {D : zD} {post : Int32 → zM → Prop} {o : Nat} (hG : zGx p l s m args meth c cX0_same 7 "PluralBranches" D (some .int) "same" []) : ∀ {H : Heap} {locs : List Loc} {cells slots : Nat} {ls : Array Slot} (M : zM), cells ≤ 0 → slots ≤ 0 → zS D M H locs → lv_has ls 7 [] → wp_X0_same_L40 D post o M → W p l e rm_X0_same s m args below meth c H locs cells slots (vx_MQ below (zQ D zI post) (zX D (fun _ _ => False)) args s 0 0 (zA D)) (F0 m 40 ls []) := by
  have hC := hG.1
  have hx := hC.x
  have hb := hC.b
  have hown := hC.o
  have hts := hC.ts
  have hlt := hG.2.2.2.2.2
  intro H locs cells slots ls M hk hn hZ hl hw
  refine lv_bipush (v := (-2)) hx hb dX0_same_40 (by decide) ?_
  exact z_iret hG hZ hk hn hw dX0_same_42
def wp_X0_same_L115 (D : zD) (post : Int32 → zM → Prop) (o : Nat) (y0 : Int32) (M : zM) : Prop :=
    post y0 M
set_option maxHeartbeats 4000000 in
set_option maxRecDepth 100000 in
theorem wk_X0_same_L115 {p : Program} {l : Launch} {e : Env} {s : State} {m : MethodId} {args : Array Value} {below : List Frame} {meth : Method} {c : Code} {D : zD} {post : Int32 → zM → Prop} {o : Nat} (hG : zGx p l s m args meth c cX0_same 7 "PluralBranches" D (some .int) "same" []) : ∀ {H : Heap} {locs : List Loc} {cells slots : Nat} {ls : Array Slot} (y0 : Int32) (M : zM), cells ≤ 0 → slots ≤ 0 → zS D M H locs → lv_has ls 7 [] → wp_X0_same_L115 D post o y0 M → W p l e rm_X0_same s m args below meth c H locs cells slots (vx_MQ below (zQ D zI post) (zX D (fun _ _ => False)) args s 0 0 (zA D)) (F0 m 115 ls [.int y0]) := by
  have hC := hG.1
  have hx := hC.x
  have hb := hC.b
  have hown := hC.o
  have hts := hC.ts
  have hlt := hG.2.2.2.2.2
  intro H locs cells slots ls y0 M hk hn hZ hl hw
  exact z_iret hG hZ hk hn hw dX0_same_115
def wp_X0_same_L96 (D : zD) (post : Int32 → zM → Prop) (o : Nat) (k65 : Option Nat → Option Nat → Int32 → Int32 → zM → Prop) (x3 : Option Nat) (x4 : Option Nat) (x6 : Int32) (y0 : Int32) (y1 : Int32) (M : zM) : Prop :=
    k65 x3 x4 (y0 &&& y1) (x6 + 1) M
set_option maxHeartbeats 4000000 in
set_option maxRecDepth 100000 in
theorem wk_X0_same_L96 {p : Program} {l : Launch} {e : Env} {s : State} {m : MethodId} {args : Array Value} {below : List Frame} {meth : Method} {c : Code} {D : zD} {post : Int32 → zM → Prop} {o : Nat} (hG : zGx p l s m args meth c cX0_same 7 "PluralBranches" D (some .int) "same" []) (k65 : Option Nat → Option Nat → Int32 → Int32 → zM → Prop) (hk65 : ∀ {H : Heap} {locs : List Loc} {cells slots : Nat} {ls : Array Slot} (x3 : Option Nat) (x4 : Option Nat) (x5 : Int32) (x6 : Int32) (M : zM), cells ≤ 0 → slots ≤ 0 → zS D M H locs → lv_has ls 7 [(3, va_rf x3), (4, va_rf x4), (5, .int x5), (6, .int x6)] → k65 x3 x4 x5 x6 M → W p l e rm_X0_same s m args below meth c H locs cells slots (vx_MQ below (zQ D zI post) (zX D (fun _ _ => False)) args s 0 0 (zA D)) (F0 m 65 ls [])) : ∀ {H : Heap} {locs : List Loc} {cells slots : Nat} {ls : Array Slot} (x3 : Option Nat) (x4 : Option Nat) (x6 : Int32) (y0 : Int32) (y1 : Int32) (M : zM), cells ≤ 0 → slots ≤ 0 → zS D M H locs → lv_has ls 7 [(3, va_rf x3), (4, va_rf x4), (6, .int x6)] → wp_X0_same_L96 D post o k65 x3 x4 x6 y0 y1 M → W p l e rm_X0_same s m args below meth c H locs cells slots (vx_MQ below (zQ D zI post) (zX D (fun _ _ => False)) args s 0 0 (zA D)) (F0 m 96 ls [.int y1, .int y0]) := by
  have hC := hG.1
  have hx := hC.x
  have hb := hC.b
  have hown := hC.o
  have hts := hC.ts
  have hlt := hG.2.2.2.2.2
  intro H locs cells slots ls x3 x4 x6 y0 y1 M hk hn hZ hl hw
  refine lv_iand hx hb dX0_same_96 ?_
  refine lv_istore (i := 5) (lv' := [(5, .int (y0 &&& y1)), (3, va_rf x3), (4, va_rf x4), (6, .int x6)]) hx hb dX0_same_97 hl (by decide) (zfc rfl (zfk rfl (zfk (zfa rfl) (zfk rfl rfl)))) (fun ls hl1 => ?_)
  replace hl := hl1
  clear hl1
  refine lv_iinc (v := (x6 + 1)) (lv' := [(6, .int (x6 + 1)), (5, .int (y0 &&& y1)), (3, va_rf x3), (4, va_rf x4)]) hx hb dX0_same_99 hl (k := 3) rfl rfl (by decide) rfl (fun ls hl1 => ?_)
  replace hl := hl1
  clear hl1
  refine lv_goto (tgt := 65) hx hb dX0_same_102 (by decide) ?_
  exact hk65 _ _ _ _ _ hk hn hZ (lv_sub hl [2, 3, 1, 0] rfl) hw
def wp_X0_same_L65 (D : zD) (post : Int32 → zM → Prop) (o : Nat) : Nat → Option Nat → Option Nat → Int32 → Int32 → zM → Prop
  | 0 => fun _ _ _ _ _ => False
  | f + 1 => fun x3 x4 x5 x6 M =>
    (((5 : Int32) ≤ x6 → ((x5 = 0 → wp_X0_same_L115 D post o (0 : Int32) M) ∧ (¬ x5 = 0 → wp_X0_same_L115 D post o (1 : Int32) M))) ∧ (¬ (5 : Int32) ≤ x6 → ((zd x3 fun b2 => zgR M b2 10 3 fun g3 => ((zd g3 fun b4 => zaI M b4 0 x6 fun v5 => ((zd x4 fun b6 => zgR M b6 10 3 fun g7 => ((zd g7 fun b8 => zaI M b8 0 x6 fun v9 => ((¬ v5 = v9 → wp_X0_same_L96 D post o (wp_X0_same_L65 D post o f) (some b2) (some b6) x6 x5 (0 : Int32) M) ∧ (v5 = v9 → wp_X0_same_L96 D post o (wp_X0_same_L65 D post o f) (some b2) (some b6) x6 x5 (1 : Int32) M))))))))))))
set_option maxHeartbeats 4000000 in
set_option maxRecDepth 100000 in
theorem wk_X0_same_L65 {p : Program} {l : Launch} {e : Env} {s : State} {m : MethodId} {args : Array Value} {below : List Frame} {meth : Method} {c : Code} {D : zD} {post : Int32 → zM → Prop} {o : Nat} (hG : zGx p l s m args meth c cX0_same 7 "PluralBranches" D (some .int) "same" []) : ∀ (f : Nat), ∀ {H : Heap} {locs : List Loc} {cells slots : Nat} {ls : Array Slot} (x3 : Option Nat) (x4 : Option Nat) (x5 : Int32) (x6 : Int32) (M : zM), cells ≤ 0 → slots ≤ 0 → zS D M H locs → lv_has ls 7 [(3, va_rf x3), (4, va_rf x4), (5, .int x5), (6, .int x6)] → wp_X0_same_L65 D post o f x3 x4 x5 x6 M → W p l e rm_X0_same s m args below meth c H locs cells slots (vx_MQ below (zQ D zI post) (zX D (fun _ _ => False)) args s 0 0 (zA D)) (F0 m 65 ls []) := by
  have hC := hG.1
  have hx := hC.x
  have hb := hC.b
  have hown := hC.o
  have hts := hC.ts
  have hlt := hG.2.2.2.2.2
  intro f
  induction f with
  | zero =>
    intro H locs cells slots ls x3 x4 x5 x6 M hk hn hZ hl hw
    exact absurd hw (fun h => h)
  | succ f ih =>
    intro H locs cells slots ls x3 x4 x5 x6 M hk hn hZ hl hw
    refine lv_iload hx hb dX0_same_65 (lv_at hl 3 rfl) ?_
    refine lv_iconst (v := 5) hx hb dX0_same_67 (by decide) ?_
    refine lv_icmp_ge (tgt := 105) hx hb dX0_same_68 (by decide) (fun c22 => ?_) (fun c22 => ?_)
    · replace hw := hw.1 c22
      refine lv_iload hx hb dX0_same_105 (lv_at hl 2 rfl) ?_
      refine lv_if_eq (tgt := 114) hx hb dX0_same_107 (by decide) (fun c12 => ?_) (fun c12 => ?_)
      · replace hw := hw.1 c12
        refine lv_iconst (v := 0) hx hb dX0_same_114 (by decide) ?_
        exact wk_X0_same_L115 hG _ _ hk hn hZ (lv_sub hl [] rfl) hw
      · replace hw := hw.2 c12
        refine lv_iconst (v := 1) hx hb dX0_same_110 (by decide) ?_
        refine lv_goto (tgt := 115) hx hb dX0_same_111 (by decide) ?_
        exact wk_X0_same_L115 hG _ _ hk hn hZ (lv_sub hl [] rfl) hw
    · replace hw := hw.2 c22
      refine lv_iload hx hb dX0_same_71 (lv_at hl 2 rfl) ?_
      refine z_aload_n hC dX0_same_73 rfl (lv_at hl 0 rfl) ?_
      obtain ⟨b13, hr0, hw⟩ := hw
      subst hr0
      obtain ⟨fs0, g14, hM0, hx0, hw⟩ := hw
      refine z_getN hC hZ hM0 zc10 3 (by decide) q555 (fun _ h9 => h9) hx0 dX0_same_74 ?_
      refine lv_iload hx hb dX0_same_77 (lv_at hl 3 rfl) ?_
      obtain ⟨b15, hr0, hw⟩ := hw
      subst hr0
      obtain ⟨n0, f0, hM0, hi0, hw⟩ := hw
      refine z_iald hC hZ hM0 hi0 dX0_same_79 ?_
      generalize f0 _ = v16 at hw ⊢
      refine z_aload hC dX0_same_80 (lv_at hl 1 rfl) ?_
      obtain ⟨b17, hr0, hw⟩ := hw
      subst hr0
      obtain ⟨fs0, g18, hM0, hx0, hw⟩ := hw
      refine z_getN hC hZ hM0 zc10 3 (by decide) q555 (fun _ h9 => h9) hx0 dX0_same_82 ?_
      refine lv_iload hx hb dX0_same_85 (lv_at hl 3 rfl) ?_
      obtain ⟨b19, hr0, hw⟩ := hw
      subst hr0
      obtain ⟨n0, f0, hM0, hi0, hw⟩ := hw
      refine z_iald hC hZ hM0 hi0 dX0_same_87 ?_
      generalize f0 _ = v20 at hw ⊢
      refine lv_icmp_ne (tgt := 95) hx hb dX0_same_88 (by decide) (fun c21 => ?_) (fun c21 => ?_)
      · replace hw := hw.1 c21
        refine lv_iconst (v := 0) hx hb dX0_same_95 (by decide) ?_
        exact wk_X0_same_L96 hG _ (fun {_ _ _ _ _} _z0 _z1 _z2 _z3 _z4 h1 h2 h3 h4 h5 => ih _z0 _z1 _z2 _z3 _z4 h1 h2 h3 h4 h5) _ _ _ _ _ _ hk hn hZ (lv_sub hl [0, 1, 3] rfl) hw
      · replace hw := hw.2 c21
        refine lv_iconst (v := 1) hx hb dX0_same_91 (by decide) ?_
        refine lv_goto (tgt := 96) hx hb dX0_same_92 (by decide) ?_
        exact wk_X0_same_L96 hG _ (fun {_ _ _ _ _} _z0 _z1 _z2 _z3 _z4 h1 h2 h3 h4 h5 => ih _z0 _z1 _z2 _z3 _z4 h1 h2 h3 h4 h5) _ _ _ _ _ _ hk hn hZ (lv_sub hl [0, 1, 3] rfl) hw
def wp_X0_same_L60 (D : zD) (post : Int32 → zM → Prop) (o : Nat) (x3 : Option Nat) (x4 : Option Nat) (y0 : Int32) (M : zM) : Prop :=
    (∃ f, wp_X0_same_L65 D post o f x3 x4 y0 (0 : Int32) M)
set_option maxHeartbeats 4000000 in
set_option maxRecDepth 100000 in
theorem wk_X0_same_L60 {p : Program} {l : Launch} {e : Env} {s : State} {m : MethodId} {args : Array Value} {below : List Frame} {meth : Method} {c : Code} {D : zD} {post : Int32 → zM → Prop} {o : Nat} (hG : zGx p l s m args meth c cX0_same 7 "PluralBranches" D (some .int) "same" []) : ∀ {H : Heap} {locs : List Loc} {cells slots : Nat} {ls : Array Slot} (x3 : Option Nat) (x4 : Option Nat) (y0 : Int32) (M : zM), cells ≤ 0 → slots ≤ 0 → zS D M H locs → lv_has ls 7 [(3, va_rf x3), (4, va_rf x4)] → wp_X0_same_L60 D post o x3 x4 y0 M → W p l e rm_X0_same s m args below meth c H locs cells slots (vx_MQ below (zQ D zI post) (zX D (fun _ _ => False)) args s 0 0 (zA D)) (F0 m 60 ls [.int y0]) := by
  have hC := hG.1
  have hx := hC.x
  have hb := hC.b
  have hown := hC.o
  have hts := hC.ts
  have hlt := hG.2.2.2.2.2
  intro H locs cells slots ls x3 x4 y0 M hk hn hZ hl hw
  refine lv_istore (i := 5) (lv' := [(5, .int y0), (3, va_rf x3), (4, va_rf x4)]) hx hb dX0_same_60 hl (by decide) (zfc rfl (zfk rfl (zfk (zfa rfl) rfl))) (fun ls hl1 => ?_)
  replace hl := hl1
  clear hl1
  refine lv_iconst (v := 0) hx hb dX0_same_62 (by decide) ?_
  refine lv_istore (i := 6) (lv' := [(6, .int (0 : Int32)), (5, .int y0), (3, va_rf x3), (4, va_rf x4)]) hx hb dX0_same_63 hl (by decide) rfl (fun ls hl1 => ?_)
  replace hl := hl1
  clear hl1
  obtain ⟨f1, hw⟩ := hw
  exact wk_X0_same_L65 hG f1 _ _ _ _ _ hk hn hZ (lv_sub hl [2, 3, 1, 0] rfl) hw
def wp_X0_same (D : zD) (post : Int32 → zM → Prop) (o : Nat) (a0 : Int32) (a1 : Int32) (M : zM) : Prop :=
    (wp_X0_isSlot D (fun r23 M => ((r23 = 0 → wp_X0_same_L14 D post o M) ∧ (¬ r23 = 0 → (wp_X0_isSlot D (fun r26 M => ((¬ r26 = 0 → (zgR M o 0 5 fun g29 => ((zd g29 fun b30 => zaR M b30 8 a0 fun v31 => (zgR M o 0 5 fun g32 => ((zd g32 fun b33 => zaR M b33 8 a1 fun v34 => ((v31 = none → wp_X0_same_L40 D post o M) ∧ (∀ b35 : Nat, v31 = some b35 → ((∀ b36 : Nat, v34 = some b36 → (zgI M b35 10 4 fun g37 => (zgI M b36 10 4 fun g38 => ((¬ g37 = g38 → wp_X0_same_L60 D post o (some b35) (some b36) (0 : Int32) M) ∧ (g37 = g38 → wp_X0_same_L60 D post o (some b35) (some b36) (1 : Int32) M))))) ∧ (v34 = none → wp_X0_same_L40 D post o M))))))))))) ∧ (r26 = 0 → wp_X0_same_L14 D post o M))) a1 M)))) a0 M)
set_option maxHeartbeats 4000000 in
set_option maxRecDepth 100000 in
theorem w_X0_same {l : Launch} {D : zD} {post : Int32 → zM → Prop} (hlt : l.stackTraces = false) {o : Nat} {a0 : Int32} {a1 : Int32} {M : zM} (hw : wp_X0_same D post o a0 a1 M) : zMet l D yX0_same (ws_ yX0_same cX0_same 7 (some .int)) rm_X0_same 0 0 [.ref o, .int a0, .int a1] M zI post (fun _ _ => False) := by
  unfold wp_X0_same at hw
  have hlv : lv_args 0 [.ref o, .int a0, .int a1] = [(0, .ref o), (1, .int a0), (2, .int a1)] := (zargs1 rfl (zargs1 rfl (zargs1 rfl rfl)))
  refine z_ofW hlt (by decide) (Nat.le_trans (zsl1 rfl (zsl1 rfl (zsl1 rfl (Nat.le_refl 0 : (lg_sl []).length ≤ 0)))) (Nat.le_of_ble_eq_true rfl)) hlv ?_
  intro p e s m args below meth c ls hG hZ hl
  have hC := hG.1
  have hx := hC.x
  have hb := hC.b
  have hown := hC.o
  have hts := hC.ts
  have hlt := hG.2.2.2.2.2
  obtain ⟨cells, hce⟩ : ∃ z : Nat, z = 0 := ⟨0, rfl⟩
  obtain ⟨slots, hsl⟩ : ∃ z : Nat, z = 0 := ⟨0, rfl⟩
  refine W.cs (cells' := cells) (slots' := slots) hce.symm hsl.symm ?_
  have hk : cells ≤ 0 := Nat.le_of_eq hce
  have hn : slots ≤ 0 := Nat.le_of_eq hsl
  clear hce hsl
  refine lv_iload_n hx hb dX0_same_0 rfl (lv_at hl 1 rfl) ?_
  refine z_callI hZ (vx_runS (As := [.int a0]) (rest := []) hC.fix (w_X0_isSlot hlt hw) (va_cwS 1 hts (lw_S q528 q529 q67 q530) rfl rfl rfl dd_X0_isSlot ⟨Nat.le_of_ble_eq_true rfl, Nat.le_of_ble_eq_true rfl⟩) (z_preS hC hZ) rfl rfl hl.1 rfl (lv_room (Nat.zero_le _)) dX0_same_1 ⟨hk, hn⟩) (fun r42 M H locs hw1 hZ => ?_) (fun q M H locs ci fs E T9 N9 hw hZ hc1 hM1 hb1 => False.elim hw)
  replace hw := hw1
  clear hw1
  refine W.cs (cells' := cells) (slots' := slots) rfl rfl ?_
  refine lv_if_eq (tgt := 14) hx hb dX0_same_4 (by decide) (fun c60 => ?_) (fun c60 => ?_)
  · replace hw := hw.1 c60
    exact wk_X0_same_L14 hG _ hk hn hZ (lv_sub hl [] rfl) hw
  · replace hw := hw.2 c60
    refine lv_iload_n hx hb dX0_same_7 rfl (lv_at hl 2 rfl) ?_
    refine z_callI hZ (vx_runS (As := [.int a1]) (rest := []) hC.fix (w_X0_isSlot hlt hw) (va_cwS 1 hts (lw_S q528 q529 q67 q530) rfl rfl rfl dd_X0_isSlot ⟨Nat.le_of_ble_eq_true rfl, Nat.le_of_ble_eq_true rfl⟩) (z_preS hC hZ) rfl rfl hl.1 rfl (lv_room (Nat.zero_le _)) dX0_same_8 ⟨hk, hn⟩) (fun r45 M H locs hw1 hZ => ?_) (fun q M H locs ci fs E T9 N9 hw hZ hc1 hM1 hb1 => False.elim hw)
    replace hw := hw1
    clear hw1
    refine W.cs (cells' := cells) (slots' := slots) rfl rfl ?_
    refine lv_if_ne (tgt := 16) hx hb dX0_same_11 (by decide) (fun c59 => ?_) (fun c59 => ?_)
    · replace hw := hw.1 c59
      refine lv_aload_n hx hb dX0_same_16 rfl (lv_at hl 0 rfl) ?_
      obtain ⟨fs0, g48, hM0, hx0, hw⟩ := hw
      refine z_get hC hZ hM0 zc0 5 (by decide) q406 (fun _ h9 => h9) hx0 dX0_same_17 ?_
      refine lv_iload_n hx hb dX0_same_20 rfl (lv_at hl 1 rfl) ?_
      obtain ⟨b49, hr0, hw⟩ := hw
      subst hr0
      obtain ⟨n0, f0, v50, hM0, hi0, hr0, hw⟩ := hw
      refine z_aald hC hZ hM0 (by decide) rfl hi0 hr0 dX0_same_21 ?_
      refine z_astore_n (i := 3) (lv' := [(3, va_rf v50), (0, .ref o), (1, .int a0), (2, .int a1)]) hC dX0_same_22 rfl hl (by decide) rfl (fun ls hl1 => ?_)
      replace hl := hl1
      clear hl1
      refine lv_aload_n hx hb dX0_same_23 rfl (lv_at hl 1 rfl) ?_
      obtain ⟨fs0, g51, hM0, hx0, hw⟩ := hw
      refine z_get hC hZ hM0 zc0 5 (by decide) q406 (fun _ h9 => h9) hx0 dX0_same_24 ?_
      refine lv_iload_n hx hb dX0_same_27 rfl (lv_at hl 3 rfl) ?_
      obtain ⟨b52, hr0, hw⟩ := hw
      subst hr0
      obtain ⟨n0, f0, v53, hM0, hi0, hr0, hw⟩ := hw
      refine z_aald hC hZ hM0 (by decide) rfl hi0 hr0 dX0_same_28 ?_
      refine z_astore (i := 4) (lv' := [(4, va_rf v53), (3, va_rf v50), (0, .ref o), (1, .int a0), (2, .int a1)]) hC dX0_same_29 hl (by decide) (zfc rfl (zfk (zfa rfl) (zfk rfl (zfk rfl (zfk rfl rfl))))) (fun ls hl1 => ?_)
      replace hl := hl1
      clear hl1
      refine z_aload_n hC dX0_same_31 rfl (lv_at hl 1 rfl) ?_
      refine z_ifnull (tgt := 40) hC dX0_same_32 (by decide) (fun hr0 => ?_) (fun b54 hr0 => ?_)
      · replace hw := hw.1 hr0
        exact wk_X0_same_L40 hG _ hk hn hZ (lv_sub hl [] rfl) hw
      · replace hw := hw.2 b54 hr0
        subst hr0
        refine z_aload hC dX0_same_35 (lv_at hl 0 rfl) ?_
        refine z_ifnonnull (tgt := 43) hC dX0_same_37 (by decide) (fun b55 hr0 => ?_) (fun hr0 => ?_)
        · replace hw := hw.1 b55 hr0
          subst hr0
          refine lv_aload_n hx hb dX0_same_43 rfl (lv_at hl 1 rfl) ?_
          obtain ⟨fs0, g56, hM0, hx0, hw⟩ := hw
          refine z_getN hC hZ hM0 zc10 4 (by decide) q557 (fun _ h9 => h9) hx0 dX0_same_44 ?_
          refine lv_aload hx hb dX0_same_47 (lv_at hl 0 rfl) ?_
          obtain ⟨fs0, g57, hM0, hx0, hw⟩ := hw
          refine z_getN hC hZ hM0 zc10 4 (by decide) q557 (fun _ h9 => h9) hx0 dX0_same_49 ?_
          refine lv_icmp_ne (tgt := 59) hx hb dX0_same_52 (by decide) (fun c58 => ?_) (fun c58 => ?_)
          · replace hw := hw.1 c58
            refine lv_iconst (v := 0) hx hb dX0_same_59 (by decide) ?_
            exact wk_X0_same_L60 hG _ _ _ _ hk hn hZ (lv_sub hl [1, 0] rfl) hw
          · replace hw := hw.2 c58
            refine lv_iconst (v := 1) hx hb dX0_same_55 (by decide) ?_
            refine lv_goto (tgt := 60) hx hb dX0_same_56 (by decide) ?_
            exact wk_X0_same_L60 hG _ _ _ _ hk hn hZ (lv_sub hl [1, 0] rfl) hw
        · replace hw := hw.2 hr0
          exact wk_X0_same_L40 hG _ hk hn hZ (lv_sub hl [] rfl) hw
    · replace hw := hw.2 c59
      exact wk_X0_same_L14 hG _ hk hn hZ (lv_sub hl [] rfl) hw
abbrev rm_X28_init (K N : Nat) : Room := { frames := 1, cells := K, slots := N, locals := 64 }
def wp_X28_init (D : zD) (post : Unit → zM → Prop) (k : Nat) (n : Nat) (o : Nat) (a0 : Option Nat) (a1 : Option Nat) (M : zM) : Prop :=
    (znewA D M 1 (360 : Int32) k n fun b1 M => (zp D M o 25 0 (.ref b1) fun M => (zp D M o 25 2 (va_rf a0) fun M => (zp D M o 25 3 (va_rf a1) fun M => post () M))))
set_option maxHeartbeats 4000000 in
set_option maxRecDepth 100000 in
theorem w_X28_init {l : Launch} {D : zD} {post : Unit → zM → Prop} (hlt : l.stackTraces = false) {k : Nat} {n : Nat} {o : Nat} {a0 : Option Nat} {a1 : Option Nat} {M : zM} (hw : wp_X28_init D post k n o a0 a1 M) : zMet l D yX28_init (ws_ yX28_init cX28_init 3 (none)) (rm_X28_init k n) k n [.ref o, va_rf a0, va_rf a1] M zU post (fun _ _ => False) := by
  unfold wp_X28_init at hw
  have hlv : lv_args 0 [.ref o, va_rf a0, va_rf a1] = [(0, .ref o), (1, va_rf a0), (2, va_rf a1)] := (zargs1 rfl (zargs1 (zcat _) (zargs1 (zcat _) rfl)))
  refine z_ofW hlt (by decide) (Nat.le_trans (zsl1 rfl (zsl1 (zcat _) (zsl1 (zcat _) (Nat.le_refl 0 : (lg_sl []).length ≤ 0)))) (Nat.le_of_ble_eq_true rfl)) hlv ?_
  intro p e s m args below meth c ls hG hZ hl
  have hC := hG.1
  have hx := hC.x
  have hb := hC.b
  have hown := hC.o
  have hts := hC.ts
  have hlt := hG.2.2.2.2.2
  obtain ⟨cells, hce⟩ : ∃ z : Nat, z = 0 := ⟨0, rfl⟩
  obtain ⟨slots, hsl⟩ : ∃ z : Nat, z = 0 := ⟨0, rfl⟩
  refine W.cs (cells' := cells) (slots' := slots) hce.symm hsl.symm ?_
  have hk : cells + k ≤ k := by omega
  have hn : slots + n ≤ n := by omega
  clear hce hsl
  refine lv_aload_n hx hb dX28_init_0 rfl (lv_at hl 0 rfl) ?_
  refine W.objInit hx hb hown (hts _ q1370) (hts _ q124) (hts _ q125) rfl (by rw [hC.ml]; exact hl.1) rfl dX28_init_1 (Nat.le_of_ble_eq_true rfl) (Nat.le_of_ble_eq_true rfl) ?_
  refine W.eq (g2 := F0 m 4 ls []) rfl ?_
  refine lv_aload_n hx hb dX28_init_4 rfl (lv_at hl 0 rfl) ?_
  refine lv_sipush (v := 360) hx hb dX28_init_5 (by decide) ?_
  obtain ⟨hx1, hx2, hk1, hn1, hw⟩ := hw
  refine z_newa (k := 1) (a0 := zna 1 (360 : Int32).toNatClampNeg) (atype := .byte) hC hZ q219 rfl (by decide) (fun _ => rfl) hx1 rfl (z_bytes hx2 (by decide)) (show cells + 1 ≤ k by omega) (show slots + (360 : Int32).toNatClampNeg ≤ n by omega) dX28_init_8 (fun b5 H hq0 hq1 hZ => ?_)
  replace hw := hw b5 hq0 hq1
  replace hZ : zS D (zu M b5 (some (.inl (1, zna 1 (360 : Int32).toNatClampNeg)))) _ _ := hZ
  refine W.cs (cells' := cells + 1) (slots' := slots + (360 : Int32).toNatClampNeg) rfl rfl ?_
  generalize zu M _ _ = M at hw hZ
  have hk : cells + 1 + (k - 1) ≤ k := by omega
  have hn : slots + (360 : Int32).toNatClampNeg + (n - (360 : Int32).toNatClampNeg) ≤ n := by omega
  generalize cells + 1 = cells at hk ⊢
  generalize slots + (360 : Int32).toNatClampNeg = slots at hn ⊢
  clear hk1 hn1 hx1 hx2
  obtain ⟨fs0, hM0, hb0, hk0, hw⟩ := hw
  refine z_putF hC hZ hM0 hb0 zc25 0 (by decide) q1371 (fun _ h9 => h9) (by decide) hG.2.2.2.1 rfl rfl rfl hk0 dX28_init_10 (fun H locs hZ => ?_)
  generalize zu M _ _ = M at hw hZ
  refine lv_aload_n hx hb dX28_init_13 rfl (lv_at hl 0 rfl) ?_
  refine z_aload_n hC dX28_init_14 rfl (lv_at hl 1 rfl) ?_
  obtain ⟨fs0, hM0, hb0, hk0, hw⟩ := hw
  refine z_putF hC hZ hM0 hb0 zc25 2 (by decide) q1375 (fun _ h9 => h9) (by decide) hG.2.2.2.1 rfl zrf_nar zrf_fit hk0 dX28_init_15 (fun H locs hZ => ?_)
  generalize zu M _ _ = M at hw hZ
  refine lv_aload_n hx hb dX28_init_18 rfl (lv_at hl 0 rfl) ?_
  refine z_aload_n hC dX28_init_19 rfl (lv_at hl 2 rfl) ?_
  obtain ⟨fs0, hM0, hb0, hk0, hw⟩ := hw
  refine z_putF hC hZ hM0 hb0 zc25 3 (by decide) q1379 (fun _ h9 => h9) (by decide) hG.2.2.2.1 rfl zrf_narA zrf_fitA hk0 dX28_init_20 (fun H locs hZ => ?_)
  generalize zu M _ _ = M at hw hZ
  exact z_vret hG hZ (by omega) (by omega) hw dX28_init_23
abbrev rm_X1_rounded : Room := { frames := 2, cells := 0, slots := 0, locals := 87 }
def wp_X1_rounded_L110 (D : zD) (post : Int64 → zM → Prop) (o : Nat) (y0 : Int64) (M : zM) : Prop :=
    post y0 M
set_option maxHeartbeats 4000000 in
set_option maxRecDepth 100000 in
theorem wk_X1_rounded_L110 {p : Program} {l : Launch} {e : Env} {s : State} {m : MethodId} {args : Array Value} {below : List Frame} {meth : Method} {c : Code} {D : zD} {post : Int64 → zM → Prop} {o : Nat} (hG : zGx p l s m args meth c cX1_rounded 10 "PluralBranches$Decimal" D (some .long) "rounded" []) : ∀ {H : Heap} {locs : List Loc} {cells slots : Nat} {ls : Array Slot} (y0 : Int64) (M : zM), cells ≤ 0 → slots ≤ 0 → zS D M H locs → lv_has ls 10 [] → wp_X1_rounded_L110 D post o y0 M → W p l e rm_X1_rounded s m args below meth c H locs cells slots (vx_MQ below (zQ D zL post) (zX D (fun _ _ => False)) args s 0 0 (zA D)) (F0 m 110 ls [.long y0]) := by
  have hC := hG.1
  have hx := hC.x
  have hb := hC.b
  have hown := hC.o
  have hts := hC.ts
  have hlt := hG.2.2.2.2.2
  intro H locs cells slots ls y0 M hk hn hZ hl hw
  exact z_lret hG hZ hk hn hw dX1_rounded_110
def wp_X1_rounded_L92 (D : zD) (post : Int64 → zM → Prop) (o : Nat) (y0 : Int64) (y1 : Int64) (M : zM) : Prop :=
    (zgI M o 1 0 fun g1 => ((0 ≤ g1 → wp_X1_rounded_L110 D post o (y0 + y1) M) ∧ (¬ 0 ≤ g1 → wp_X1_rounded_L110 D post o (-(y0 + y1)) M)))
set_option maxHeartbeats 4000000 in
set_option maxRecDepth 100000 in
theorem wk_X1_rounded_L92 {p : Program} {l : Launch} {e : Env} {s : State} {m : MethodId} {args : Array Value} {below : List Frame} {meth : Method} {c : Code} {D : zD} {post : Int64 → zM → Prop} {o : Nat} (hG : zGx p l s m args meth c cX1_rounded 10 "PluralBranches$Decimal" D (some .long) "rounded" []) : ∀ {H : Heap} {locs : List Loc} {cells slots : Nat} {ls : Array Slot} (y0 : Int64) (y1 : Int64) (M : zM), cells ≤ 0 → slots ≤ 0 → zS D M H locs → lv_has ls 10 [(0, .ref o)] → wp_X1_rounded_L92 D post o y0 y1 M → W p l e rm_X1_rounded s m args below meth c H locs cells slots (vx_MQ below (zQ D zL post) (zX D (fun _ _ => False)) args s 0 0 (zA D)) (F0 m 92 ls [.long y1, .long y0]) := by
  have hC := hG.1
  have hx := hC.x
  have hb := hC.b
  have hown := hC.o
  have hts := hC.ts
  have hlt := hG.2.2.2.2.2
  intro H locs cells slots ls y0 y1 M hk hn hZ hl hw
  refine lv_ladd hx hb dX1_rounded_92 ?_
  refine lv_lstore (i := 6) (lv' := [(6, .long (y0 + y1)), (0, .ref o)]) hx hb dX1_rounded_93 hl (by decide) rfl (fun ls hl1 => ?_)
  replace hl := hl1
  clear hl1
  refine lv_aload_n hx hb dX1_rounded_95 rfl (lv_at hl 1 rfl) ?_
  obtain ⟨fs0, g3, hM0, hx0, hw⟩ := hw
  refine z_get hC hZ hM0 zc1 0 (by decide) q149 (fun _ h9 => h9) hx0 dX1_rounded_96 ?_
  refine lv_if_ge (tgt := 108) hx hb dX1_rounded_99 (by decide) (fun c4 => ?_) (fun c4 => ?_)
  · replace hw := hw.1 c4
    refine lv_lload hx hb dX1_rounded_108 (lv_at hl 0 rfl) ?_
    exact wk_X1_rounded_L110 hG _ _ hk hn hZ (lv_sub hl [] rfl) hw
  · replace hw := hw.2 c4
    refine lv_lload hx hb dX1_rounded_102 (lv_at hl 0 rfl) ?_
    refine lv_lneg hx hb dX1_rounded_104 ?_
    refine lv_goto (tgt := 110) hx hb dX1_rounded_105 (by decide) ?_
    exact wk_X1_rounded_L110 hG _ _ hk hn hZ (lv_sub hl [] rfl) hw
def wp_X1_rounded_L87 (D : zD) (post : Int64 → zM → Prop) (o : Nat) (y0 : Int64) (M : zM) : Prop :=
    wp_X1_rounded_L92 D post o y0 (1 : Int64) M
set_option maxHeartbeats 4000000 in
set_option maxRecDepth 100000 in
theorem wk_X1_rounded_L87 {p : Program} {l : Launch} {e : Env} {s : State} {m : MethodId} {args : Array Value} {below : List Frame} {meth : Method} {c : Code} {D : zD} {post : Int64 → zM → Prop} {o : Nat} (hG : zGx p l s m args meth c cX1_rounded 10 "PluralBranches$Decimal" D (some .long) "rounded" []) : ∀ {H : Heap} {locs : List Loc} {cells slots : Nat} {ls : Array Slot} (y0 : Int64) (M : zM), cells ≤ 0 → slots ≤ 0 → zS D M H locs → lv_has ls 10 [(0, .ref o)] → wp_X1_rounded_L87 D post o y0 M → W p l e rm_X1_rounded s m args below meth c H locs cells slots (vx_MQ below (zQ D zL post) (zX D (fun _ _ => False)) args s 0 0 (zA D)) (F0 m 87 ls [.long y0]) := by
  have hC := hG.1
  have hx := hC.x
  have hb := hC.b
  have hown := hC.o
  have hts := hC.ts
  have hlt := hG.2.2.2.2.2
  intro H locs cells slots ls y0 M hk hn hZ hl hw
  refine lv_lconst (v := 1) hx hb dX1_rounded_87 (by decide) ?_
  refine lv_goto (tgt := 92) hx hb dX1_rounded_88 (by decide) ?_
  exact wk_X1_rounded_L92 hG _ _ _ hk hn hZ (lv_sub hl [0] rfl) hw
def wp_X1_rounded_L91 (D : zD) (post : Int64 → zM → Prop) (o : Nat) (y0 : Int64) (M : zM) : Prop :=
    wp_X1_rounded_L92 D post o y0 (0 : Int64) M
set_option maxHeartbeats 4000000 in
set_option maxRecDepth 100000 in
theorem wk_X1_rounded_L91 {p : Program} {l : Launch} {e : Env} {s : State} {m : MethodId} {args : Array Value} {below : List Frame} {meth : Method} {c : Code} {D : zD} {post : Int64 → zM → Prop} {o : Nat} (hG : zGx p l s m args meth c cX1_rounded 10 "PluralBranches$Decimal" D (some .long) "rounded" []) : ∀ {H : Heap} {locs : List Loc} {cells slots : Nat} {ls : Array Slot} (y0 : Int64) (M : zM), cells ≤ 0 → slots ≤ 0 → zS D M H locs → lv_has ls 10 [(0, .ref o)] → wp_X1_rounded_L91 D post o y0 M → W p l e rm_X1_rounded s m args below meth c H locs cells slots (vx_MQ below (zQ D zL post) (zX D (fun _ _ => False)) args s 0 0 (zA D)) (F0 m 91 ls [.long y0]) := by
  have hC := hG.1
  have hx := hC.x
  have hb := hC.b
  have hown := hC.o
  have hts := hC.ts
  have hlt := hG.2.2.2.2.2
  intro H locs cells slots ls y0 M hk hn hZ hl hw
  refine lv_lconst (v := 0) hx hb dX1_rounded_91 (by decide) ?_
  exact wk_X1_rounded_L92 hG _ _ _ hk hn hZ (lv_sub hl [0] rfl) hw
def wp_X1_rounded (D : zD) (post : Int64 → zM → Prop) (o : Nat) (a0 : Int32) (M : zM) : Prop :=
    (zgI M o 1 1 fun g5 => ((a0 < g5 → (zgI M o 1 1 fun g6 => (wp_X0_tens D (fun r7 M => (zgI M o 1 0 fun g10 => (wp_J0_abs D (fun r11 M => (¬ r7 = 0 ∧ (¬ r7 = 0 ∧ ((0 < (lg_cmp ((2 : Int64) * (r11 - r11 / r7 * r7)) r7) → wp_X1_rounded_L87 D post o (r11 / r7) M) ∧ (¬ 0 < (lg_cmp ((2 : Int64) * (r11 - r11 / r7 * r7)) r7) → ((¬ (lg_cmp ((2 : Int64) * (r11 - r11 / r7 * r7)) r7) = 0 → wp_X1_rounded_L91 D post o (r11 / r7) M) ∧ ((lg_cmp ((2 : Int64) * (r11 - r11 / r7 * r7)) r7) = 0 → ((¬ (lg_cmp ((r11 / r7) - (r11 / r7) / (2 : Int64) * (2 : Int64)) (1 : Int64)) = 0 → wp_X1_rounded_L91 D post o (r11 / r7) M) ∧ ((lg_cmp ((r11 / r7) - (r11 / r7) / (2 : Int64) * (2 : Int64)) (1 : Int64)) = 0 → wp_X1_rounded_L87 D post o (r11 / r7) M))))))))) (g10.toInt64) M))) (g6 - a0) M))) ∧ (¬ a0 < g5 → (zgI M o 1 0 fun g17 => (zgI M o 1 1 fun g18 => (wp_X0_tens D (fun r19 M => post ((g17.toInt64) * r19) M) (a0 - g18) M))))))
set_option maxHeartbeats 4000000 in
set_option maxRecDepth 100000 in
theorem w_X1_rounded {l : Launch} {D : zD} {post : Int64 → zM → Prop} (hlt : l.stackTraces = false) {o : Nat} {a0 : Int32} {M : zM} (hw : wp_X1_rounded D post o a0 M) : zMet l D yX1_rounded (ws_ yX1_rounded cX1_rounded 10 (some .long)) rm_X1_rounded 0 0 [.ref o, .int a0] M zL post (fun _ _ => False) := by
  unfold wp_X1_rounded at hw
  have hlv : lv_args 0 [.ref o, .int a0] = [(0, .ref o), (1, .int a0)] := (zargs1 rfl (zargs1 rfl rfl))
  refine z_ofW hlt (by decide) (Nat.le_trans (zsl1 rfl (zsl1 rfl (Nat.le_refl 0 : (lg_sl []).length ≤ 0))) (Nat.le_of_ble_eq_true rfl)) hlv ?_
  intro p e s m args below meth c ls hG hZ hl
  have hC := hG.1
  have hx := hC.x
  have hb := hC.b
  have hown := hC.o
  have hts := hC.ts
  have hlt := hG.2.2.2.2.2
  obtain ⟨cells, hce⟩ : ∃ z : Nat, z = 0 := ⟨0, rfl⟩
  obtain ⟨slots, hsl⟩ : ∃ z : Nat, z = 0 := ⟨0, rfl⟩
  refine W.cs (cells' := cells) (slots' := slots) hce.symm hsl.symm ?_
  have hk : cells ≤ 0 := Nat.le_of_eq hce
  have hn : slots ≤ 0 := Nat.le_of_eq hsl
  clear hce hsl
  refine lv_iload_n hx hb dX1_rounded_0 rfl (lv_at hl 1 rfl) ?_
  refine lv_aload_n hx hb dX1_rounded_1 rfl (lv_at hl 0 rfl) ?_
  obtain ⟨fs0, g23, hM0, hx0, hw⟩ := hw
  refine z_get hC hZ hM0 zc1 1 (by decide) q153 (fun _ h9 => h9) hx0 dX1_rounded_2 ?_
  refine lv_icmp_lt (tgt := 24) hx hb dX1_rounded_5 (by decide) (fun c40 => ?_) (fun c40 => ?_)
  · replace hw := hw.1 c40
    refine lv_aload_n hx hb dX1_rounded_24 rfl (lv_at hl 0 rfl) ?_
    obtain ⟨fs0, g24, hM0, hx0, hw⟩ := hw
    refine z_get hC hZ hM0 zc1 1 (by decide) q153 (fun _ h9 => h9) hx0 dX1_rounded_25 ?_
    refine lv_iload_n hx hb dX1_rounded_28 rfl (lv_at hl 1 rfl) ?_
    refine lv_isub hx hb dX1_rounded_29 ?_
    refine z_callL hZ (vx_runSN (As := [.int (g24 - a0)]) (rest := []) hC.fix (w_X0_tens hlt hw) ⟨va_cnB 1 hts (lw_meth q143) rfl rfl rfl (hC.nw q141 rfl) (hts _ q67) dd_X0_tens ⟨Nat.le_of_ble_eq_true rfl, Nat.le_of_ble_eq_true rfl⟩, hts _ q142, trivial⟩ (z_preS hC hZ) rfl rfl hl.1 rfl (lv_room (Nat.zero_le _)) dX1_rounded_30 ⟨hk, hn⟩) (fun r25 M H locs hw1 hZ => ?_) (fun q M H locs ci fs E T9 N9 hw hZ hc1 hM1 hb1 => False.elim hw)
    replace hw := hw1
    clear hw1
    refine W.cs (cells' := cells) (slots' := slots) rfl rfl ?_
    refine lv_lstore_n (i := 2) (lv' := [(2, .long r25), (0, .ref o), (1, .int a0)]) hx hb dX1_rounded_33 rfl hl (by decide) rfl (fun ls hl1 => ?_)
    replace hl := hl1
    clear hl1
    refine lv_aload_n hx hb dX1_rounded_34 rfl (lv_at hl 1 rfl) ?_
    obtain ⟨fs0, g28, hM0, hx0, hw⟩ := hw
    refine z_get hC hZ hM0 zc1 0 (by decide) q149 (fun _ h9 => h9) hx0 dX1_rounded_35 ?_
    refine lv_i2l hx hb dX1_rounded_38 rfl ?_
    refine z_callL hZ (vx_runS (As := [.long (g28.toInt64)]) (rest := []) hC.fix (w_J0_abs hlt hw) (va_cwS 1 hts (lw_S q138 q139 q69 q140) rfl rfl rfl dd_J0_abs ⟨Nat.le_of_ble_eq_true rfl, Nat.le_of_ble_eq_true rfl⟩) (z_preS hC hZ) rfl rfl hl.1 rfl (lv_room (Nat.zero_le _)) dX1_rounded_39 ⟨hk, hn⟩) (fun r29 M H locs hw1 hZ => ?_) (fun q M H locs ci fs E T9 N9 hw hZ hc1 hM1 hb1 => False.elim hw)
    replace hw := hw1
    clear hw1
    refine W.cs (cells' := cells) (slots' := slots) rfl rfl ?_
    refine lv_lstore (i := 4) (lv' := [(4, .long r29), (2, .long r25), (0, .ref o), (1, .int a0)]) hx hb dX1_rounded_42 hl (by decide) rfl (fun ls hl1 => ?_)
    replace hl := hl1
    clear hl1
    refine lv_lload hx hb dX1_rounded_44 (lv_at hl 0 rfl) ?_
    refine lv_lload_n hx hb dX1_rounded_46 rfl (lv_at hl 1 rfl) ?_
    obtain ⟨hz0, hw⟩ := hw
    refine lv_ldiv hx hb dX1_rounded_47 hz0 ?_
    refine lv_lstore (i := 6) (lv' := [(6, .long (r29 / r25)), (4, .long r29), (2, .long r25), (0, .ref o), (1, .int a0)]) hx hb dX1_rounded_48 hl (by decide) rfl (fun ls hl1 => ?_)
    replace hl := hl1
    clear hl1
    refine lv_ldc2 hx hb hown (hts _ q1565) dX1_rounded_50 ?_
    refine lv_lload hx hb dX1_rounded_53 (lv_at hl 1 rfl) ?_
    refine lv_lload_n hx hb dX1_rounded_55 rfl (lv_at hl 2 rfl) ?_
    obtain ⟨hz0, hw⟩ := hw
    refine lv_lrem hx hb dX1_rounded_56 hz0 ?_
    refine lv_lmul hx hb dX1_rounded_57 ?_
    refine lv_lstore (i := 8) (lv' := [(8, .long ((2 : Int64) * (r29 - r29 / r25 * r25))), (6, .long (r29 / r25)), (4, .long r29), (2, .long r25), (0, .ref o), (1, .int a0)]) hx hb dX1_rounded_58 hl (by decide) rfl (fun ls hl1 => ?_)
    replace hl := hl1
    clear hl1
    refine lv_lload hx hb dX1_rounded_60 (lv_at hl 1 rfl) ?_
    refine lv_lload hx hb dX1_rounded_62 (lv_at hl 0 rfl) ?_
    refine lv_lload_n hx hb dX1_rounded_64 rfl (lv_at hl 3 rfl) ?_
    refine W.lcmp hx hb dX1_rounded_65 ?_
    refine lv_if_gt (tgt := 87) hx hb dX1_rounded_66 (by decide) (fun c34 => ?_) (fun c34 => ?_)
    · replace hw := hw.1 c34
      exact wk_X1_rounded_L87 hG _ _ hk hn hZ (lv_sub hl [4] rfl) hw
    · replace hw := hw.2 c34
      refine lv_lload hx hb dX1_rounded_69 (lv_at hl 0 rfl) ?_
      refine lv_lload_n hx hb dX1_rounded_71 rfl (lv_at hl 3 rfl) ?_
      refine W.lcmp hx hb dX1_rounded_72 ?_
      refine lv_if_ne (tgt := 91) hx hb dX1_rounded_73 (by decide) (fun c33 => ?_) (fun c33 => ?_)
      · replace hw := hw.1 c33
        exact wk_X1_rounded_L91 hG _ _ hk hn hZ (lv_sub hl [4] rfl) hw
      · replace hw := hw.2 c33
        refine lv_lload hx hb dX1_rounded_76 (lv_at hl 1 rfl) ?_
        refine lv_ldc2 hx hb hown (hts _ q1565) dX1_rounded_78 ?_
        refine lv_lrem hx hb dX1_rounded_81 (by decide) ?_
        refine lv_lconst (v := 1) hx hb dX1_rounded_82 (by decide) ?_
        refine W.lcmp hx hb dX1_rounded_83 ?_
        refine lv_if_ne (tgt := 91) hx hb dX1_rounded_84 (by decide) (fun c32 => ?_) (fun c32 => ?_)
        · replace hw := hw.1 c32
          exact wk_X1_rounded_L91 hG _ _ hk hn hZ (lv_sub hl [4] rfl) hw
        · replace hw := hw.2 c32
          exact wk_X1_rounded_L87 hG _ _ hk hn hZ (lv_sub hl [4] rfl) hw
  · replace hw := hw.2 c40
    refine lv_aload_n hx hb dX1_rounded_8 rfl (lv_at hl 0 rfl) ?_
    obtain ⟨fs0, g35, hM0, hx0, hw⟩ := hw
    refine z_get hC hZ hM0 zc1 0 (by decide) q149 (fun _ h9 => h9) hx0 dX1_rounded_9 ?_
    refine lv_i2l hx hb dX1_rounded_12 rfl ?_
    refine lv_iload_n hx hb dX1_rounded_13 rfl (lv_at hl 1 rfl) ?_
    refine lv_aload_n hx hb dX1_rounded_14 rfl (lv_at hl 0 rfl) ?_
    obtain ⟨fs0, g36, hM0, hx0, hw⟩ := hw
    refine z_get hC hZ hM0 zc1 1 (by decide) q153 (fun _ h9 => h9) hx0 dX1_rounded_15 ?_
    refine lv_isub hx hb dX1_rounded_18 ?_
    refine z_callL hZ (vx_runSN (As := [.int (a0 - g36)]) (rest := [.long (g35.toInt64)]) hC.fix (w_X0_tens hlt hw) ⟨va_cnB 1 hts (lw_meth q143) rfl rfl rfl (hC.nw q141 rfl) (hts _ q67) dd_X0_tens ⟨Nat.le_of_ble_eq_true rfl, Nat.le_of_ble_eq_true rfl⟩, hts _ q142, trivial⟩ (z_preS hC hZ) rfl rfl hl.1 rfl (lv_room (Nat.le_trans (zrm2 rfl zrm0) (Nat.le_of_ble_eq_true rfl))) dX1_rounded_19 ⟨hk, hn⟩) (fun r37 M H locs hw1 hZ => ?_) (fun q M H locs ci fs E T9 N9 hw hZ hc1 hM1 hb1 => False.elim hw)
    replace hw := hw1
    clear hw1
    refine W.cs (cells' := cells) (slots' := slots) rfl rfl ?_
    refine lv_lmul hx hb dX1_rounded_22 ?_
    exact z_lret hG hZ hk hn hw dX1_rounded_23
abbrev rm_X28_put : Room := { frames := 1, cells := 0, slots := 0, locals := 64 }
def wp_X28_put (D : zD) (post : Unit → zM → Prop) (o : Nat) (a0 : Int32) (M : zM) : Prop :=
    (zgR M o 25 0 fun g1 => (zgI M o 25 1 fun g2 => ((zd g1 fun b3 => zsB D M b3 g2 (a0.toInt8.toInt32) fun M => (zgI M o 25 1 fun g4 => (zp D M o 25 1 (.int (g4 + (1 : Int32))) fun M => post () M))))))
set_option maxHeartbeats 4000000 in
set_option maxRecDepth 100000 in
theorem w_X28_put {l : Launch} {D : zD} {post : Unit → zM → Prop} (hlt : l.stackTraces = false) {o : Nat} {a0 : Int32} {M : zM} (hw : wp_X28_put D post o a0 M) : zMet l D yX28_put (ws_ yX28_put cX28_put 2 (none)) rm_X28_put 0 0 [.ref o, .int a0] M zU post (fun _ _ => False) := by
  unfold wp_X28_put at hw
  have hlv : lv_args 0 [.ref o, .int a0] = [(0, .ref o), (1, .int a0)] := (zargs1 rfl (zargs1 rfl rfl))
  refine z_ofW hlt (by decide) (Nat.le_trans (zsl1 rfl (zsl1 rfl (Nat.le_refl 0 : (lg_sl []).length ≤ 0))) (Nat.le_of_ble_eq_true rfl)) hlv ?_
  intro p e s m args below meth c ls hG hZ hl
  have hC := hG.1
  have hx := hC.x
  have hb := hC.b
  have hown := hC.o
  have hts := hC.ts
  have hlt := hG.2.2.2.2.2
  obtain ⟨cells, hce⟩ : ∃ z : Nat, z = 0 := ⟨0, rfl⟩
  obtain ⟨slots, hsl⟩ : ∃ z : Nat, z = 0 := ⟨0, rfl⟩
  refine W.cs (cells' := cells) (slots' := slots) hce.symm hsl.symm ?_
  have hk : cells ≤ 0 := Nat.le_of_eq hce
  have hn : slots ≤ 0 := Nat.le_of_eq hsl
  clear hce hsl
  refine lv_aload_n hx hb dX28_put_0 rfl (lv_at hl 0 rfl) ?_
  obtain ⟨fs0, g6, hM0, hx0, hw⟩ := hw
  refine z_get hC hZ hM0 zc25 0 (by decide) q1371 (fun _ h9 => h9) hx0 dX28_put_1 ?_
  refine lv_aload_n hx hb dX28_put_4 rfl (lv_at hl 0 rfl) ?_
  obtain ⟨fs0, g7, hM0, hx0, hw⟩ := hw
  refine z_get hC hZ hM0 zc25 1 (by decide) q1373 (fun _ h9 => h9) hx0 dX28_put_5 ?_
  refine lv_iload_n hx hb dX28_put_8 rfl (lv_at hl 1 rfl) ?_
  refine lv_i2b hx hb dX28_put_9 rfl ?_
  obtain ⟨b8, hr0, hw⟩ := hw
  subst hr0
  obtain ⟨n0, f0, hM0, hb0, hi0, hw⟩ := hw
  refine z_bast hC hZ hM0 hb0 hi0 dX28_put_10 (fun H locs hZ => ?_)
  generalize zu M _ _ = M at hw hZ
  refine lv_aload_n hx hb dX28_put_11 rfl (lv_at hl 0 rfl) ?_
  refine lv_dup hx hb dX28_put_12 rfl ?_
  obtain ⟨fs0, g9, hM0, hx0, hw⟩ := hw
  refine z_get hC hZ hM0 zc25 1 (by decide) q1373 (fun _ h9 => h9) hx0 dX28_put_13 ?_
  refine lv_iconst (v := 1) hx hb dX28_put_16 (by decide) ?_
  refine lv_iadd hx hb dX28_put_17 ?_
  obtain ⟨fs0, hM0, hb0, hk0, hw⟩ := hw
  refine z_put hC hZ hM0 hb0 zc25 1 (by decide) q1373 (fun _ h9 => h9) (by decide) rfl rfl hk0 dX28_put_18 (fun H locs hZ => ?_)
  generalize zu M _ _ = M at hw hZ
  exact z_vret hG hZ hk hn hw dX28_put_21
abbrev rm_X2_group : Room := { frames := 1, cells := 0, slots := 0, locals := 64 }
def wp_X2_group (D : zD) (post : Int32 → zM → Prop) (o : Nat) (M : zM) : Prop :=
    post (32 : Int32) M
set_option maxHeartbeats 4000000 in
set_option maxRecDepth 100000 in
theorem w_X2_group {l : Launch} {D : zD} {post : Int32 → zM → Prop} (hlt : l.stackTraces = false) {o : Nat} {M : zM} (hw : wp_X2_group D post o M) : zMet l D yX2_group (ws_ yX2_group cX2_group 1 (some .int)) rm_X2_group 0 0 [.ref o] M zI post (fun _ _ => False) := by
  unfold wp_X2_group at hw
  have hlv : lv_args 0 [.ref o] = [(0, .ref o)] := (zargs1 rfl rfl)
  refine z_ofW hlt (by decide) (Nat.le_trans (zsl1 rfl (Nat.le_refl 0 : (lg_sl []).length ≤ 0)) (Nat.le_of_ble_eq_true rfl)) hlv ?_
  intro p e s m args below meth c ls hG hZ hl
  have hC := hG.1
  have hx := hC.x
  have hb := hC.b
  have hown := hC.o
  have hts := hC.ts
  have hlt := hG.2.2.2.2.2
  obtain ⟨cells, hce⟩ : ∃ z : Nat, z = 0 := ⟨0, rfl⟩
  obtain ⟨slots, hsl⟩ : ∃ z : Nat, z = 0 := ⟨0, rfl⟩
  refine W.cs (cells' := cells) (slots' := slots) hce.symm hsl.symm ?_
  have hk : cells ≤ 0 := Nat.le_of_eq hce
  have hn : slots ≤ 0 := Nat.le_of_eq hsl
  clear hce hsl
  refine lv_bipush (v := 32) hx hb dX2_group_0 (by decide) ?_
  exact z_iret hG hZ hk hn hw dX2_group_2
abbrev rm_X6_group : Room := { frames := 1, cells := 0, slots := 0, locals := 64 }
def wp_X6_group (D : zD) (post : Int32 → zM → Prop) (o : Nat) (M : zM) : Prop :=
    post (44 : Int32) M
set_option maxHeartbeats 4000000 in
set_option maxRecDepth 100000 in
theorem w_X6_group {l : Launch} {D : zD} {post : Int32 → zM → Prop} (hlt : l.stackTraces = false) {o : Nat} {M : zM} (hw : wp_X6_group D post o M) : zMet l D yX6_group (ws_ yX6_group cX6_group 1 (some .int)) rm_X6_group 0 0 [.ref o] M zI post (fun _ _ => False) := by
  unfold wp_X6_group at hw
  have hlv : lv_args 0 [.ref o] = [(0, .ref o)] := (zargs1 rfl rfl)
  refine z_ofW hlt (by decide) (Nat.le_trans (zsl1 rfl (Nat.le_refl 0 : (lg_sl []).length ≤ 0)) (Nat.le_of_ble_eq_true rfl)) hlv ?_
  intro p e s m args below meth c ls hG hZ hl
  have hC := hG.1
  have hx := hC.x
  have hb := hC.b
  have hown := hC.o
  have hts := hC.ts
  have hlt := hG.2.2.2.2.2
  obtain ⟨cells, hce⟩ : ∃ z : Nat, z = 0 := ⟨0, rfl⟩
  obtain ⟨slots, hsl⟩ : ∃ z : Nat, z = 0 := ⟨0, rfl⟩
  refine W.cs (cells' := cells) (slots' := slots) hce.symm hsl.symm ?_
  have hk : cells ≤ 0 := Nat.le_of_eq hce
  have hn : slots ≤ 0 := Nat.le_of_eq hsl
  clear hce hsl
  refine lv_bipush (v := 44) hx hb dX6_group_0 (by decide) ?_
  exact z_iret hG hZ hk hn hw dX6_group_2
abbrev rm_X7_group : Room := { frames := 1, cells := 0, slots := 0, locals := 64 }
def wp_X7_group (D : zD) (post : Int32 → zM → Prop) (o : Nat) (M : zM) : Prop :=
    post (44 : Int32) M
set_option maxHeartbeats 4000000 in
set_option maxRecDepth 100000 in
theorem w_X7_group {l : Launch} {D : zD} {post : Int32 → zM → Prop} (hlt : l.stackTraces = false) {o : Nat} {M : zM} (hw : wp_X7_group D post o M) : zMet l D yX7_group (ws_ yX7_group cX7_group 1 (some .int)) rm_X7_group 0 0 [.ref o] M zI post (fun _ _ => False) := by
  unfold wp_X7_group at hw
  have hlv : lv_args 0 [.ref o] = [(0, .ref o)] := (zargs1 rfl rfl)
  refine z_ofW hlt (by decide) (Nat.le_trans (zsl1 rfl (Nat.le_refl 0 : (lg_sl []).length ≤ 0)) (Nat.le_of_ble_eq_true rfl)) hlv ?_
  intro p e s m args below meth c ls hG hZ hl
  have hC := hG.1
  have hx := hC.x
  have hb := hC.b
  have hown := hC.o
  have hts := hC.ts
  have hlt := hG.2.2.2.2.2
  obtain ⟨cells, hce⟩ : ∃ z : Nat, z = 0 := ⟨0, rfl⟩
  obtain ⟨slots, hsl⟩ : ∃ z : Nat, z = 0 := ⟨0, rfl⟩
  refine W.cs (cells' := cells) (slots' := slots) hce.symm hsl.symm ?_
  have hk : cells ≤ 0 := Nat.le_of_eq hce
  have hn : slots ≤ 0 := Nat.le_of_eq hsl
  clear hce hsl
  refine lv_bipush (v := 44) hx hb dX7_group_0 (by decide) ?_
  exact z_iret hG hZ hk hn hw dX7_group_2
