set_option maxRecDepth 100000
theorem dd_X10_fault : yX10_fault.cls ≠ "java/lang/invoke/MethodHandle" ∧ yX10_fault.cls ≠ "java/lang/invoke/VarHandle" ∧ (parseMethodDescriptor yX10_fault.desc).map (fun d => d.parameters.length) = some 0 := by decide +kernel
theorem dd_X10_here : yX10_here.cls ≠ "java/lang/invoke/MethodHandle" ∧ yX10_here.cls ≠ "java/lang/invoke/VarHandle" ∧ (parseMethodDescriptor yX10_here.desc).map (fun d => d.parameters.length) = some 0 := by decide +kernel
theorem dd_X10_lies : yX10_lies.cls ≠ "java/lang/invoke/MethodHandle" ∧ yX10_lies.cls ≠ "java/lang/invoke/VarHandle" ∧ (parseMethodDescriptor yX10_lies.desc).map (fun d => d.parameters.length) = some 1 := by decide +kernel
theorem dd_X10_must : yX10_must.cls ≠ "java/lang/invoke/MethodHandle" ∧ yX10_must.cls ≠ "java/lang/invoke/VarHandle" ∧ (parseMethodDescriptor yX10_must.desc).map (fun d => d.parameters.length) = some 1 := by decide +kernel
theorem dd_X10_some : yX10_some.cls ≠ "java/lang/invoke/MethodHandle" ∧ yX10_some.cls ≠ "java/lang/invoke/VarHandle" ∧ (parseMethodDescriptor yX10_some.desc).map (fun d => d.parameters.length) = some 2 := by decide +kernel
theorem dd_X10_takes : yX10_takes.cls ≠ "java/lang/invoke/MethodHandle" ∧ yX10_takes.cls ≠ "java/lang/invoke/VarHandle" ∧ (parseMethodDescriptor yX10_takes.desc).map (fun d => d.parameters.length) = some 1 := by decide +kernel
theorem dd_X10_wants : yX10_wants.cls ≠ "java/lang/invoke/MethodHandle" ∧ yX10_wants.cls ≠ "java/lang/invoke/VarHandle" ∧ (parseMethodDescriptor yX10_wants.desc).map (fun d => d.parameters.length) = some 1 := by decide +kernel
theorem dd_X11_init : yX11_init.cls ≠ "java/lang/invoke/MethodHandle" ∧ yX11_init.cls ≠ "java/lang/invoke/VarHandle" ∧ (parseMethodDescriptor yX11_init.desc).map (fun d => d.parameters.length) = some 0 := by decide +kernel
theorem dd_X13_init : yX13_init.cls ≠ "java/lang/invoke/MethodHandle" ∧ yX13_init.cls ≠ "java/lang/invoke/VarHandle" ∧ (parseMethodDescriptor yX13_init.desc).map (fun d => d.parameters.length) = some 0 := by decide +kernel
theorem dd_X16_init : yX16_init.cls ≠ "java/lang/invoke/MethodHandle" ∧ yX16_init.cls ≠ "java/lang/invoke/VarHandle" ∧ (parseMethodDescriptor yX16_init.desc).map (fun d => d.parameters.length) = some 1 := by decide +kernel
theorem dd_X19_init : yX19_init.cls ≠ "java/lang/invoke/MethodHandle" ∧ yX19_init.cls ≠ "java/lang/invoke/VarHandle" ∧ (parseMethodDescriptor yX19_init.desc).map (fun d => d.parameters.length) = some 4 := by decide +kernel
theorem dd_X19_init_2 : yX19_init_2.cls ≠ "java/lang/invoke/MethodHandle" ∧ yX19_init_2.cls ≠ "java/lang/invoke/VarHandle" ∧ (parseMethodDescriptor yX19_init_2.desc).map (fun d => d.parameters.length) = some 1 := by decide +kernel
theorem dd_X20_init : yX20_init.cls ≠ "java/lang/invoke/MethodHandle" ∧ yX20_init.cls ≠ "java/lang/invoke/VarHandle" ∧ (parseMethodDescriptor yX20_init.desc).map (fun d => d.parameters.length) = some 2 := by decide +kernel
abbrev rm_X11_init (K N : Nat) : Room := { frames := 4, cells := K, slots := N, locals := 124 }
def wp_X11_init (D : zD) (post : Unit → zM → Prop) (k : Nat) (n : Nat) (o : Nat) (M : zM) : Prop :=
    (znew D M 26 3 [.int 0, .null, .int 0] k n fun b1 M => (wp_J3_init D (fun _ M => (zp D M o 10 2 (.ref b1) fun M => (znewA D M 0 (5 : Int32) (k - 1) (n - 3) fun b5 M => (zp D M o 10 3 (.ref b5) fun M => post () M)))) b1 M))
set_option maxHeartbeats 4000000 in
set_option maxRecDepth 100000 in
theorem w_X11_init {l : Launch} {D : zD} {post : Unit → zM → Prop} (hlt : l.stackTraces = false) {k : Nat} {n : Nat} {o : Nat} {M : zM} (hw : wp_X11_init D post k n o M) : zMet l D yX11_init (ws_ yX11_init cX11_init 1 (none)) (rm_X11_init k n) k n [.ref o] M zU post (fun _ _ => False) := by
  unfold wp_X11_init at hw
  have hlv : lv_args 0 [.ref o] = [(0, .ref o)] := (zargs1 rfl rfl)
  refine z_ofW hlt (by decide) (Nat.le_trans (zsl1 rfl (Nat.le_refl 0 : (lg_sl []).length ≤ 0)) (Nat.le_of_ble_eq_true rfl)) hlv ?_
  intro p e s m args below meth c ls hG hZ hl
  have hC := hG.1
  have hx := hC.x
  have hb := hC.b
  have hown := hC.o
  have hts := hC.ts
  have hlt := hG.2.2.2.2.2
  obtain ⟨cells, hce⟩ : ∃ z : Nat, z = 0 := ⟨0, rfl⟩
  obtain ⟨slots, hsl⟩ : ∃ z : Nat, z = 0 := ⟨0, rfl⟩
  refine W.cs (cells' := cells) (slots' := slots) hce.symm hsl.symm ?_
  have hk : cells + k ≤ k := by omega
  have hn : slots + n ≤ n := by omega
  clear hce hsl
  refine lv_aload_n hx hb dX11_init_0 rfl (lv_at hl 0 rfl) ?_
  refine W.objInit hx hb hown (hts _ q543) (hts _ q124) (hts _ q125) rfl (by rw [hC.ml]; exact hl.1) rfl dX11_init_1 (Nat.le_of_ble_eq_true rfl) (Nat.le_of_ble_eq_true rfl) ?_
  refine W.eq (g2 := F0 m 4 ls []) rfl ?_
  refine lv_aload_n hx hb dX11_init_4 rfl (lv_at hl 0 rfl) ?_
  obtain ⟨hk1, hn1, hw⟩ := hw
  refine z_new (fs := [.int 0, .null, .int 0]) hC hZ zc26 q544 q191 q74 (zdefs (N := 3) (ty := tyJ3) (fs := [.int 0, .null, .int 0]) (by decide)) (show cells + 1 ≤ k by omega) (show slots + 3 ≤ n by omega) dX11_init_5 (fun b8 H hq0 hq1 hZ => ?_)
  replace hw := hw b8 hq0 hq1
  generalize zu M _ _ = M at hw hZ
  have hk : cells + 1 + (k - 1) ≤ k := by omega
  have hn : slots + 3 + (n - 3) ≤ n := by omega
  generalize cells + 1 = cells at hk ⊢
  generalize slots + 3 = slots at hn ⊢
  clear hk1 hn1
  refine lv_dup hx hb dX11_init_8 rfl ?_
  refine z_callU hZ (vx_runI (As := []) (rest := [.ref b8, .ref o]) hC.fix (w_J3_init hlt hw) (cwI 0 hts (lw_meth q194) rfl rfl rfl (hts _ q74) (hts _ q545) (hts _ q193) rfl dd_J3_init ⟨Nat.le_of_ble_eq_true rfl, Nat.le_of_ble_eq_true rfl⟩) (z_preS hC hZ) rfl rfl hl.1 rfl (lv_room (Nat.le_trans (zrm1 rfl (zrm1 rfl zrm0)) (Nat.le_of_ble_eq_true rfl))) dX11_init_9 ⟨(show cells + 0 ≤ k by omega), (show slots + 0 ≤ n by omega)⟩) (fun r9 M H locs hw1 hZ => ?_) (fun q M H locs ci fs E T9 N9 hw hZ hc1 hM1 hb1 => False.elim hw)
  replace hw := hw1
  clear hw1
  refine W.cs (cells' := cells) (slots' := slots) rfl rfl ?_
  obtain ⟨fs0, hM0, hb0, hk0, hw⟩ := hw
  refine z_putF hC hZ hM0 hb0 zc10 2 (by decide) q550 (fun _ h9 => h9) (by decide) hG.2.2.2.1 rfl rfl rfl hk0 dX11_init_12 (fun H locs hZ => ?_)
  generalize zu M _ _ = M at hw hZ
  refine lv_aload_n hx hb dX11_init_15 rfl (lv_at hl 0 rfl) ?_
  refine lv_iconst (v := 5) hx hb dX11_init_16 (by decide) ?_
  obtain ⟨hx1, hx2, hk1, hn1, hw⟩ := hw
  refine z_newa (k := 0) (a0 := zna 0 (5 : Int32).toNatClampNeg) (atype := .int) hC hZ q336 rfl (by decide) (fun _ => rfl) hx1 rfl (z_bytes hx2 (by decide)) (show cells + 1 ≤ k by omega) (show slots + (5 : Int32).toNatClampNeg ≤ n by omega) dX11_init_17 (fun b12 H hq0 hq1 hZ => ?_)
  replace hw := hw b12 hq0 hq1
  replace hZ : zS D (zu M b12 (some (.inl (0, zna 0 (5 : Int32).toNatClampNeg)))) _ _ := hZ
  refine W.cs (cells' := cells + 1) (slots' := slots + (5 : Int32).toNatClampNeg) rfl rfl ?_
  generalize zu M _ _ = M at hw hZ
  have hk : cells + 1 + ((k - 1) - 1) ≤ k := by omega
  have hn : slots + (5 : Int32).toNatClampNeg + ((n - 3) - (5 : Int32).toNatClampNeg) ≤ n := by omega
  generalize cells + 1 = cells at hk ⊢
  generalize slots + (5 : Int32).toNatClampNeg = slots at hn ⊢
  clear hk1 hn1 hx1 hx2
  obtain ⟨fs0, hM0, hb0, hk0, hw⟩ := hw
  refine z_putF hC hZ hM0 hb0 zc10 3 (by decide) q553 (fun _ h9 => h9) (by decide) hG.2.2.2.1 rfl rfl rfl hk0 dX11_init_19 (fun H locs hZ => ?_)
  generalize zu M _ _ = M at hw hZ
  exact z_vret hG hZ (by omega) (by omega) hw dX11_init_22
abbrev rm_X10_init (K N : Nat) : Room := { frames := 5, cells := K, slots := N, locals := 144 }
def wp_X10_init (D : zD) (post : Unit → zM → Prop) (k : Nat) (n : Nat) (o : Nat) (a0 : Option Nat) (M : zM) : Prop :=
    (zp D M o 9 5 (va_rf a0) fun M => (znew D M 10 5 [.null, .int 0, .null, .null, .int 0] k n fun b1 M => ((∃ k3 n4, k3 ≤ (k - 1) ∧ n4 ≤ (n - 5) ∧ wp_X11_init D (fun _ M => (zp D M o 9 0 (.ref b1) fun M => (zp D M o 9 4 (.int (-1 : Int32)) fun M => post () M))) k3 n4 b1 M))))
set_option maxHeartbeats 4000000 in
set_option maxRecDepth 100000 in
theorem w_X10_init {l : Launch} {D : zD} {post : Unit → zM → Prop} (hlt : l.stackTraces = false) {k : Nat} {n : Nat} {o : Nat} {a0 : Option Nat} {M : zM} (hw : wp_X10_init D post k n o a0 M) : zMet l D yX10_init (ws_ yX10_init cX10_init 2 (none)) (rm_X10_init k n) k n [.ref o, va_rf a0] M zU post (fun _ _ => False) := by
  unfold wp_X10_init at hw
  have hlv : lv_args 0 [.ref o, va_rf a0] = [(0, .ref o), (1, va_rf a0)] := (zargs1 rfl (zargs1 (zcat _) rfl))
  refine z_ofW hlt (by decide) (Nat.le_trans (zsl1 rfl (zsl1 (zcat _) (Nat.le_refl 0 : (lg_sl []).length ≤ 0))) (Nat.le_of_ble_eq_true rfl)) hlv ?_
  intro p e s m args below meth c ls hG hZ hl
  have hC := hG.1
  have hx := hC.x
  have hb := hC.b
  have hown := hC.o
  have hts := hC.ts
  have hlt := hG.2.2.2.2.2
  obtain ⟨cells, hce⟩ : ∃ z : Nat, z = 0 := ⟨0, rfl⟩
  obtain ⟨slots, hsl⟩ : ∃ z : Nat, z = 0 := ⟨0, rfl⟩
  refine W.cs (cells' := cells) (slots' := slots) hce.symm hsl.symm ?_
  have hk : cells + k ≤ k := by omega
  have hn : slots + n ≤ n := by omega
  clear hce hsl
  refine lv_aload_n hx hb dX10_init_0 rfl (lv_at hl 0 rfl) ?_
  refine z_aload_n hC dX10_init_1 rfl (lv_at hl 1 rfl) ?_
  obtain ⟨fs0, hM0, hb0, hk0, hw⟩ := hw
  refine z_putF hC hZ hM0 hb0 zc9 5 (by decide) q574 (fun _ h9 => h9) (by decide) hG.2.2.2.1 rfl zrf_nar zrf_fit hk0 dX10_init_2 (fun H locs hZ => ?_)
  generalize zu M _ _ = M at hw hZ
  refine lv_aload_n hx hb dX10_init_5 rfl (lv_at hl 0 rfl) ?_
  refine W.objInit hx hb hown (hts _ q537) (hts _ q124) (hts _ q125) rfl (by rw [hC.ml]; exact hl.1) rfl dX10_init_6 (Nat.le_of_ble_eq_true rfl) (Nat.le_of_ble_eq_true rfl) ?_
  refine W.eq (g2 := F0 m 9 ls []) rfl ?_
  refine lv_aload_n hx hb dX10_init_9 rfl (lv_at hl 0 rfl) ?_
  obtain ⟨hk1, hn1, hw⟩ := hw
  refine z_new (fs := [.null, .int 0, .null, .null, .int 0]) hC hZ zc10 q538 q539 q87 (zdefs (N := 5) (ty := tyX11) (fs := [.null, .int 0, .null, .null, .int 0]) (by decide)) (show cells + 1 ≤ k by omega) (show slots + 5 ≤ n by omega) dX10_init_10 (fun b8 H hq0 hq1 hZ => ?_)
  replace hw := hw b8 hq0 hq1
  generalize zu M _ _ = M at hw hZ
  have hk : cells + 1 + (k - 1) ≤ k := by omega
  have hn : slots + 5 + (n - 5) ≤ n := by omega
  generalize cells + 1 = cells at hk ⊢
  generalize slots + 5 = slots at hn ⊢
  clear hk1 hn1
  refine lv_dup hx hb dX10_init_13 rfl ?_
  obtain ⟨k10, n11, hk1, hn1, hw⟩ := hw
  refine z_callU hZ (vx_runIN (As := []) (rest := [.ref b8, .ref o]) hC.fix (w_X11_init hlt hw) ⟨va_cnB 0 hts (lw_meth q542) rfl rfl rfl (hC.nw q540 rfl) (hts _ q87) dd_X11_init ⟨Nat.le_of_ble_eq_true rfl, Nat.le_of_ble_eq_true rfl⟩, rfl, hts _ q541⟩ (z_preS hC hZ) rfl rfl hl.1 rfl (lv_room (Nat.le_trans (zrm1 rfl (zrm1 rfl zrm0)) (Nat.le_of_ble_eq_true rfl))) dX10_init_14 ⟨(show cells + k10 ≤ k by omega), (show slots + n11 ≤ n by omega)⟩) (fun r9 M H locs hw1 hZ => ?_) (fun q M H locs ci fs E T9 N9 hw hZ hc1 hM1 hb1 => False.elim hw)
  replace hw := hw1
  clear hw1
  have hk : cells + k10 + ((k - 1) - k10) ≤ k := by omega
  have hn : slots + n11 + ((n - 5) - n11) ≤ n := by omega
  generalize cells + k10 = cells at hk ⊢
  generalize slots + n11 = slots at hn ⊢
  clear hk1 hn1
  obtain ⟨fs0, hM0, hb0, hk0, hw⟩ := hw
  refine z_putF hC hZ hM0 hb0 zc9 0 (by decide) q569 (fun _ h9 => h9) (by decide) hG.2.2.2.1 rfl rfl rfl hk0 dX10_init_17 (fun H locs hZ => ?_)
  generalize zu M _ _ = M at hw hZ
  refine lv_aload_n hx hb dX10_init_20 rfl (lv_at hl 0 rfl) ?_
  refine lv_iconst (v := (-1)) hx hb dX10_init_21 (by decide) ?_
  obtain ⟨fs0, hM0, hb0, hk0, hw⟩ := hw
  refine z_put hC hZ hM0 hb0 zc9 4 (by decide) q573 (fun _ h9 => h9) (by decide) rfl rfl hk0 dX10_init_22 (fun H locs hZ => ?_)
  generalize zu M _ _ = M at hw hZ
  exact z_vret hG hZ (by omega) (by omega) hw dX10_init_25
abbrev rm_X12_init (K N : Nat) : Room := { frames := 4, cells := K, slots := N, locals := 124 }
def wp_X12_init (D : zD) (post : Unit → zM → Prop) (k : Nat) (n : Nat) (o : Nat) (M : zM) : Prop :=
    (znew D M 26 3 [.int 0, .null, .int 0] k n fun b1 M => (wp_J3_init D (fun _ M => (zp D M o 11 0 (.ref b1) fun M => post () M)) b1 M))
set_option maxHeartbeats 4000000 in
set_option maxRecDepth 100000 in
theorem w_X12_init {l : Launch} {D : zD} {post : Unit → zM → Prop} (hlt : l.stackTraces = false) {k : Nat} {n : Nat} {o : Nat} {M : zM} (hw : wp_X12_init D post k n o M) : zMet l D yX12_init (ws_ yX12_init cX12_init 1 (none)) (rm_X12_init k n) k n [.ref o] M zU post (fun _ _ => False) := by
  unfold wp_X12_init at hw
  have hlv : lv_args 0 [.ref o] = [(0, .ref o)] := (zargs1 rfl rfl)
  refine z_ofW hlt (by decide) (Nat.le_trans (zsl1 rfl (Nat.le_refl 0 : (lg_sl []).length ≤ 0)) (Nat.le_of_ble_eq_true rfl)) hlv ?_
  intro p e s m args below meth c ls hG hZ hl
  have hC := hG.1
  have hx := hC.x
  have hb := hC.b
  have hown := hC.o
  have hts := hC.ts
  have hlt := hG.2.2.2.2.2
  obtain ⟨cells, hce⟩ : ∃ z : Nat, z = 0 := ⟨0, rfl⟩
  obtain ⟨slots, hsl⟩ : ∃ z : Nat, z = 0 := ⟨0, rfl⟩
  refine W.cs (cells' := cells) (slots' := slots) hce.symm hsl.symm ?_
  have hk : cells + k ≤ k := by omega
  have hn : slots + n ≤ n := by omega
  clear hce hsl
  refine lv_aload_n hx hb dX12_init_0 rfl (lv_at hl 0 rfl) ?_
  refine W.objInit hx hb hown (hts _ q601) (hts _ q124) (hts _ q125) rfl (by rw [hC.ml]; exact hl.1) rfl dX12_init_1 (Nat.le_of_ble_eq_true rfl) (Nat.le_of_ble_eq_true rfl) ?_
  refine W.eq (g2 := F0 m 4 ls []) rfl ?_
  refine lv_aload_n hx hb dX12_init_4 rfl (lv_at hl 0 rfl) ?_
  obtain ⟨hk1, hn1, hw⟩ := hw
  refine z_new (fs := [.int 0, .null, .int 0]) hC hZ zc26 q602 q191 q74 (zdefs (N := 3) (ty := tyJ3) (fs := [.int 0, .null, .int 0]) (by decide)) (show cells + 1 ≤ k by omega) (show slots + 3 ≤ n by omega) dX12_init_5 (fun b6 H hq0 hq1 hZ => ?_)
  replace hw := hw b6 hq0 hq1
  generalize zu M _ _ = M at hw hZ
  have hk : cells + 1 + (k - 1) ≤ k := by omega
  have hn : slots + 3 + (n - 3) ≤ n := by omega
  generalize cells + 1 = cells at hk ⊢
  generalize slots + 3 = slots at hn ⊢
  clear hk1 hn1
  refine lv_dup hx hb dX12_init_8 rfl ?_
  refine z_callU hZ (vx_runI (As := []) (rest := [.ref b6, .ref o]) hC.fix (w_J3_init hlt hw) (cwI 0 hts (lw_meth q194) rfl rfl rfl (hts _ q74) (hts _ q603) (hts _ q193) rfl dd_J3_init ⟨Nat.le_of_ble_eq_true rfl, Nat.le_of_ble_eq_true rfl⟩) (z_preS hC hZ) rfl rfl hl.1 rfl (lv_room (Nat.le_trans (zrm1 rfl (zrm1 rfl zrm0)) (Nat.le_of_ble_eq_true rfl))) dX12_init_9 ⟨(show cells + 0 ≤ k by omega), (show slots + 0 ≤ n by omega)⟩) (fun r7 M H locs hw1 hZ => ?_) (fun q M H locs ci fs E T9 N9 hw hZ hc1 hM1 hb1 => False.elim hw)
  replace hw := hw1
  clear hw1
  refine W.cs (cells' := cells) (slots' := slots) rfl rfl ?_
  obtain ⟨fs0, hM0, hb0, hk0, hw⟩ := hw
  refine z_putF hC hZ hM0 hb0 zc11 0 (by decide) q604 (fun _ h9 => h9) (by decide) hG.2.2.2.1 rfl rfl rfl hk0 dX12_init_12 (fun H locs hZ => ?_)
  generalize zu M _ _ = M at hw hZ
  exact z_vret hG hZ (by omega) (by omega) hw dX12_init_15
abbrev rm_X10_here : Room := { frames := 1, cells := 0, slots := 0, locals := 64 }
def wp_X10_here_L34 (D : zD) (post : Int32 → zM → Prop) (o : Nat) (y0 : Int32) (M : zM) : Prop :=
    post y0 M
set_option maxHeartbeats 4000000 in
set_option maxRecDepth 100000 in
theorem wk_X10_here_L34 {p : Program} {l : Launch} {e : Env} {s : State} {m : MethodId} {args : Array Value} {below : List Frame} {meth : Method} {c : Code} {D : zD} {post : Int32 → zM → Prop} {o : Nat} (hG : zGx p l s m args meth c cX10_here 1 "PluralBranches$Reader" D (some .int) "here" []) : ∀ {H : Heap} {locs : List Loc} {cells slots : Nat} {ls : Array Slot} (y0 : Int32) (M : zM), cells ≤ 0 → slots ≤ 0 → zS D M H locs → lv_has ls 1 [] → wp_X10_here_L34 D post o y0 M → W p l e rm_X10_here s m args below meth c H locs cells slots (vx_MQ below (zQ D zI post) (zX D (fun _ _ => False)) args s 0 0 (zA D)) (F0 m 34 ls [.int y0]) := by
  have hC := hG.1
  have hx := hC.x
  have hb := hC.b
  have hown := hC.o
  have hts := hC.ts
  have hlt := hG.2.2.2.2.2
  intro H locs cells slots ls y0 M hk hn hZ hl hw
  exact z_iret hG hZ hk hn hw dX10_here_34
def wp_X10_here (D : zD) (post : Int32 → zM → Prop) (o : Nat) (M : zM) : Prop :=
    (zgI M o 9 1 fun g1 => (zgR M o 9 5 fun g2 => ((zd g2 fun b3 => zgI M b3 0 4 fun g4 => ((g4 ≤ g1 → wp_X10_here_L34 D post o (-1 : Int32) M) ∧ (¬ g4 ≤ g1 → (zgR M o 9 5 fun g5 => ((zd g5 fun b6 => zgR M b6 0 3 fun g7 => (zgI M o 9 1 fun g8 => ((zd g7 fun b9 => zaI M b9 1 g8 fun v10 => wp_X10_here_L34 D post o (v10 &&& (255 : Int32)) M))))))))))))
set_option maxHeartbeats 4000000 in
set_option maxRecDepth 100000 in
theorem w_X10_here {l : Launch} {D : zD} {post : Int32 → zM → Prop} (hlt : l.stackTraces = false) {o : Nat} {M : zM} (hw : wp_X10_here D post o M) : zMet l D yX10_here (ws_ yX10_here cX10_here 1 (some .int)) rm_X10_here 0 0 [.ref o] M zI post (fun _ _ => False) := by
  unfold wp_X10_here at hw
  have hlv : lv_args 0 [.ref o] = [(0, .ref o)] := (zargs1 rfl rfl)
  refine z_ofW hlt (by decide) (Nat.le_trans (zsl1 rfl (Nat.le_refl 0 : (lg_sl []).length ≤ 0)) (Nat.le_of_ble_eq_true rfl)) hlv ?_
  intro p e s m args below meth c ls hG hZ hl
  have hC := hG.1
  have hx := hC.x
  have hb := hC.b
  have hown := hC.o
  have hts := hC.ts
  have hlt := hG.2.2.2.2.2
  obtain ⟨cells, hce⟩ : ∃ z : Nat, z = 0 := ⟨0, rfl⟩
  obtain ⟨slots, hsl⟩ : ∃ z : Nat, z = 0 := ⟨0, rfl⟩
  refine W.cs (cells' := cells) (slots' := slots) hce.symm hsl.symm ?_
  have hk : cells ≤ 0 := Nat.le_of_eq hce
  have hn : slots ≤ 0 := Nat.le_of_eq hsl
  clear hce hsl
  refine lv_aload_n hx hb dX10_here_0 rfl (lv_at hl 0 rfl) ?_
  obtain ⟨fs0, g12, hM0, hx0, hw⟩ := hw
  refine z_get hC hZ hM0 zc9 1 (by decide) q570 (fun _ h9 => h9) hx0 dX10_here_1 ?_
  refine lv_aload_n hx hb dX10_here_4 rfl (lv_at hl 0 rfl) ?_
  obtain ⟨fs0, g13, hM0, hx0, hw⟩ := hw
  refine z_get hC hZ hM0 zc9 5 (by decide) q574 (fun _ h9 => h9) hx0 dX10_here_5 ?_
  obtain ⟨b14, hr0, hw⟩ := hw
  subst hr0
  obtain ⟨fs0, g15, hM0, hx0, hw⟩ := hw
  refine z_getN hC hZ hM0 zc0 4 (by decide) q404 (fun _ h9 => h9) hx0 dX10_here_8 ?_
  refine lv_icmp_ge (tgt := 33) hx hb dX10_here_11 (by decide) (fun c22 => ?_) (fun c22 => ?_)
  · replace hw := hw.1 c22
    refine lv_iconst (v := (-1)) hx hb dX10_here_33 (by decide) ?_
    exact wk_X10_here_L34 hG _ _ hk hn hZ (lv_sub hl [] rfl) hw
  · replace hw := hw.2 c22
    refine lv_aload_n hx hb dX10_here_14 rfl (lv_at hl 0 rfl) ?_
    obtain ⟨fs0, g16, hM0, hx0, hw⟩ := hw
    refine z_get hC hZ hM0 zc9 5 (by decide) q574 (fun _ h9 => h9) hx0 dX10_here_15 ?_
    obtain ⟨b17, hr0, hw⟩ := hw
    subst hr0
    obtain ⟨fs0, g18, hM0, hx0, hw⟩ := hw
    refine z_getN hC hZ hM0 zc0 3 (by decide) q403 (fun _ h9 => h9) hx0 dX10_here_18 ?_
    refine lv_aload_n hx hb dX10_here_21 rfl (lv_at hl 0 rfl) ?_
    obtain ⟨fs0, g19, hM0, hx0, hw⟩ := hw
    refine z_get hC hZ hM0 zc9 1 (by decide) q570 (fun _ h9 => h9) hx0 dX10_here_22 ?_
    obtain ⟨b20, hr0, hw⟩ := hw
    subst hr0
    obtain ⟨n0, f0, hM0, hi0, hw⟩ := hw
    refine z_bald hC hZ hM0 hi0 dX10_here_25 ?_
    generalize f0 _ = v21 at hw ⊢
    refine lv_sipush (v := 255) hx hb dX10_here_26 (by decide) ?_
    refine lv_iand hx hb dX10_here_29 ?_
    refine lv_goto (tgt := 34) hx hb dX10_here_30 (by decide) ?_
    exact wk_X10_here_L34 hG _ _ hk hn hZ (lv_sub hl [] rfl) hw
abbrev rm_X10_isSign : Room := { frames := 2, cells := 0, slots := 0, locals := 89 }
def wp_X10_isSign_L42 (D : zD) (post : Int32 → zM → Prop) (o : Nat) (y0 : Int32) (M : zM) : Prop :=
    (narrow .boolean (.int y0) = .int y0 ∧ post y0 M)
set_option maxHeartbeats 4000000 in
set_option maxRecDepth 100000 in
theorem wk_X10_isSign_L42 {p : Program} {l : Launch} {e : Env} {s : State} {m : MethodId} {args : Array Value} {below : List Frame} {meth : Method} {c : Code} {D : zD} {post : Int32 → zM → Prop} {o : Nat} (hG : zGx p l s m args meth c cX10_isSign 2 "PluralBranches$Reader" D (some .boolean) "isSign" []) : ∀ {H : Heap} {locs : List Loc} {cells slots : Nat} {ls : Array Slot} (y0 : Int32) (M : zM), cells ≤ 0 → slots ≤ 0 → zS D M H locs → lv_has ls 2 [] → wp_X10_isSign_L42 D post o y0 M → W p l e rm_X10_isSign s m args below meth c H locs cells slots (vx_MQ below (zQ D zI post) (zX D (fun _ _ => False)) args s 0 0 (zA D)) (F0 m 42 ls [.int y0]) := by
  have hC := hG.1
  have hx := hC.x
  have hb := hC.b
  have hown := hC.o
  have hts := hC.ts
  have hlt := hG.2.2.2.2.2
  intro H locs cells slots ls y0 M hk hn hZ hl hw
  exact z_zret hG hZ hk hn hw.1 hw.2 dX10_isSign_42
def wp_X10_isSign_L37 (D : zD) (post : Int32 → zM → Prop) (o : Nat) (M : zM) : Prop :=
    wp_X10_isSign_L42 D post o (1 : Int32) M
set_option maxHeartbeats 4000000 in
set_option maxRecDepth 100000 in
theorem wk_X10_isSign_L37 {p : Program} {l : Launch} {e : Env} {s : State} {m : MethodId} {args : Array Value} {below : List Frame} {meth : Method} {c : Code} {D : zD} {post : Int32 → zM → Prop} {o : Nat} (hG : zGx p l s m args meth c cX10_isSign 2 "PluralBranches$Reader" D (some .boolean) "isSign" []) : ∀ {H : Heap} {locs : List Loc} {cells slots : Nat} {ls : Array Slot} (M : zM), cells ≤ 0 → slots ≤ 0 → zS D M H locs → lv_has ls 2 [] → wp_X10_isSign_L37 D post o M → W p l e rm_X10_isSign s m args below meth c H locs cells slots (vx_MQ below (zQ D zI post) (zX D (fun _ _ => False)) args s 0 0 (zA D)) (F0 m 37 ls []) := by
  have hC := hG.1
  have hx := hC.x
  have hb := hC.b
  have hown := hC.o
  have hts := hC.ts
  have hlt := hG.2.2.2.2.2
  intro H locs cells slots ls M hk hn hZ hl hw
  refine lv_iconst (v := 1) hx hb dX10_isSign_37 (by decide) ?_
  refine lv_goto (tgt := 42) hx hb dX10_isSign_38 (by decide) ?_
  exact wk_X10_isSign_L42 hG _ _ hk hn hZ (lv_sub hl [] rfl) hw
def wp_X10_isSign (D : zD) (post : Int32 → zM → Prop) (o : Nat) (M : zM) : Prop :=
    ((zis M o [9] ∧ wp_X10_here D (fun r1 M => (wp_X0_in D (fun r4 M => ((¬ r4 = 0 → wp_X10_isSign_L37 D post o M) ∧ (r4 = 0 → ((r1 = (32 : Int32) → wp_X10_isSign_L37 D post o M) ∧ (¬ r1 = (32 : Int32) → ((r1 = (44 : Int32) → wp_X10_isSign_L37 D post o M) ∧ (¬ r1 = (44 : Int32) → ((¬ r1 = (46 : Int32) → wp_X10_isSign_L42 D post o (0 : Int32) M) ∧ (r1 = (46 : Int32) → wp_X10_isSign_L37 D post o M))))))))) (r1.toInt64) (97 : Int64) (122 : Int64) M)) o M))
set_option maxHeartbeats 4000000 in
set_option maxRecDepth 100000 in
theorem w_X10_isSign {l : Launch} {D : zD} {post : Int32 → zM → Prop} (hlt : l.stackTraces = false) {o : Nat} {M : zM} (hw : wp_X10_isSign D post o M) : zMet l D yX10_isSign (ws_ yX10_isSign cX10_isSign 2 (some .boolean)) rm_X10_isSign 0 0 [.ref o] M zI post (fun _ _ => False) := by
  unfold wp_X10_isSign at hw
  have hlv : lv_args 0 [.ref o] = [(0, .ref o)] := (zargs1 rfl rfl)
  refine z_ofW hlt (by decide) (Nat.le_trans (zsl1 rfl (Nat.le_refl 0 : (lg_sl []).length ≤ 0)) (Nat.le_of_ble_eq_true rfl)) hlv ?_
  intro p e s m args below meth c ls hG hZ hl
  have hC := hG.1
  have hx := hC.x
  have hb := hC.b
  have hown := hC.o
  have hts := hC.ts
  have hlt := hG.2.2.2.2.2
  obtain ⟨cells, hce⟩ : ∃ z : Nat, z = 0 := ⟨0, rfl⟩
  obtain ⟨slots, hsl⟩ : ∃ z : Nat, z = 0 := ⟨0, rfl⟩
  refine W.cs (cells' := cells) (slots' := slots) hce.symm hsl.symm ?_
  have hk : cells ≤ 0 := Nat.le_of_eq hce
  have hn : slots ≤ 0 := Nat.le_of_eq hsl
  clear hce hsl
  refine lv_aload_n hx hb dX10_isSign_0 rfl (lv_at hl 0 rfl) ?_
  obtain ⟨⟨ci0, fs0, hci0, hM0⟩, hw⟩ := hw
  obtain rfl : ci0 = 9 := List.mem_singleton.mp hci0
  refine z_callI hZ (vx_runV (As := []) (rest := []) hC.fix (w_X10_here hlt hw) (cwV 0 hts (lw_V q613 q615 qs6 q86 q616) rfl rfl rfl ⟨rfl, dd_X10_here⟩ ⟨Nat.le_of_ble_eq_true rfl, Nat.le_of_ble_eq_true rfl⟩) (z_preV hC hZ hM0 zc9) rfl rfl hl.1 rfl (lv_room (Nat.zero_le _)) dX10_isSign_1 ⟨hk, hn⟩) (fun r11 M H locs hw1 hZ => ?_) (fun q M H locs ci fs E T9 N9 hw hZ hc1 hM1 hb1 => False.elim hw)
  replace hw := hw1
  clear hw1
  refine W.cs (cells' := cells) (slots' := slots) rfl rfl ?_
  refine lv_istore_n (i := 1) (lv' := [(1, .int r11), (0, .ref o)]) hx hb dX10_isSign_4 rfl hl (by decide) rfl (fun ls hl1 => ?_)
  replace hl := hl1
  clear hl1
  refine lv_iload_n hx hb dX10_isSign_5 rfl (lv_at hl 0 rfl) ?_
  refine lv_i2l hx hb dX10_isSign_6 rfl ?_
  refine lv_ldc2 hx hb hown (hts _ q617) dX10_isSign_7 ?_
  refine lv_ldc2 hx hb hown (hts _ q618) dX10_isSign_10 ?_
  refine z_callI hZ (vx_runSN (As := [.long (r11.toInt64), .long (97 : Int64), .long (122 : Int64)]) (rest := []) hC.fix (w_X0_in hlt hw) ⟨va_cnB 3 hts (lw_meth q436) rfl rfl rfl (hC.nw q619 rfl) (hts _ q67) dd_X0_in ⟨Nat.le_of_ble_eq_true rfl, Nat.le_of_ble_eq_true rfl⟩, hts _ q435, trivial⟩ (z_preS hC hZ) rfl rfl hl.1 rfl (lv_room (Nat.zero_le _)) dX10_isSign_13 ⟨hk, hn⟩) (fun r14 M H locs hw1 hZ => ?_) (fun q M H locs ci fs E T9 N9 hw hZ hc1 hM1 hb1 => False.elim hw)
  replace hw := hw1
  clear hw1
  refine W.cs (cells' := cells) (slots' := slots) rfl rfl ?_
  refine lv_if_ne (tgt := 37) hx hb dX10_isSign_16 (by decide) (fun c20 => ?_) (fun c20 => ?_)
  · replace hw := hw.1 c20
    exact wk_X10_isSign_L37 hG _ hk hn hZ (lv_sub hl [] rfl) hw
  · replace hw := hw.2 c20
    refine lv_iload_n hx hb dX10_isSign_19 rfl (lv_at hl 0 rfl) ?_
    refine lv_bipush (v := 32) hx hb dX10_isSign_20 (by decide) ?_
    refine lv_icmp_eq (tgt := 37) hx hb dX10_isSign_22 (by decide) (fun c19 => ?_) (fun c19 => ?_)
    · replace hw := hw.1 c19
      exact wk_X10_isSign_L37 hG _ hk hn hZ (lv_sub hl [] rfl) hw
    · replace hw := hw.2 c19
      refine lv_iload_n hx hb dX10_isSign_25 rfl (lv_at hl 0 rfl) ?_
      refine lv_bipush (v := 44) hx hb dX10_isSign_26 (by decide) ?_
      refine lv_icmp_eq (tgt := 37) hx hb dX10_isSign_28 (by decide) (fun c18 => ?_) (fun c18 => ?_)
      · replace hw := hw.1 c18
        exact wk_X10_isSign_L37 hG _ hk hn hZ (lv_sub hl [] rfl) hw
      · replace hw := hw.2 c18
        refine lv_iload_n hx hb dX10_isSign_31 rfl (lv_at hl 0 rfl) ?_
        refine lv_bipush (v := 46) hx hb dX10_isSign_32 (by decide) ?_
        refine lv_icmp_ne (tgt := 41) hx hb dX10_isSign_34 (by decide) (fun c17 => ?_) (fun c17 => ?_)
        · replace hw := hw.1 c17
          refine lv_iconst (v := 0) hx hb dX10_isSign_41 (by decide) ?_
          exact wk_X10_isSign_L42 hG _ _ hk hn hZ (lv_sub hl [] rfl) hw
        · replace hw := hw.2 c17
          exact wk_X10_isSign_L37 hG _ hk hn hZ (lv_sub hl [] rfl) hw
abbrev rm_X13_init : Room := { frames := 1, cells := 0, slots := 0, locals := 64 }
def wp_X13_init (D : zD) (post : Unit → zM → Prop) (o : Nat) (M : zM) : Prop :=
    post () M
set_option maxHeartbeats 4000000 in
set_option maxRecDepth 100000 in
theorem w_X13_init {l : Launch} {D : zD} {post : Unit → zM → Prop} (hlt : l.stackTraces = false) {o : Nat} {M : zM} (hw : wp_X13_init D post o M) : zMet l D yX13_init (ws_ yX13_init cX13_init 1 (none)) rm_X13_init 0 0 [.ref o] M zU post (fun _ _ => False) := by
  unfold wp_X13_init at hw
  have hlv : lv_args 0 [.ref o] = [(0, .ref o)] := (zargs1 rfl rfl)
  refine z_ofW hlt (by decide) (Nat.le_trans (zsl1 rfl (Nat.le_refl 0 : (lg_sl []).length ≤ 0)) (Nat.le_of_ble_eq_true rfl)) hlv ?_
  intro p e s m args below meth c ls hG hZ hl
  have hC := hG.1
  have hx := hC.x
  have hb := hC.b
  have hown := hC.o
  have hts := hC.ts
  have hlt := hG.2.2.2.2.2
  obtain ⟨cells, hce⟩ : ∃ z : Nat, z = 0 := ⟨0, rfl⟩
  obtain ⟨slots, hsl⟩ : ∃ z : Nat, z = 0 := ⟨0, rfl⟩
  refine W.cs (cells' := cells) (slots' := slots) hce.symm hsl.symm ?_
  have hk : cells ≤ 0 := Nat.le_of_eq hce
  have hn : slots ≤ 0 := Nat.le_of_eq hsl
  clear hce hsl
  refine lv_aload_n hx hb dX13_init_0 rfl (lv_at hl 0 rfl) ?_
  refine W.objInit hx hb hown (hts _ q632) (hts _ q124) (hts _ q125) rfl (by rw [hC.ml]; exact hl.1) rfl dX13_init_1 (Nat.le_of_ble_eq_true rfl) (Nat.le_of_ble_eq_true rfl) ?_
  refine W.eq (g2 := F0 m 4 ls []) rfl ?_
  exact z_vret hG hZ hk hn hw dX13_init_4
abbrev rm_X14_init : Room := { frames := 2, cells := 0, slots := 0, locals := 84 }
def wp_X14_init (D : zD) (post : Unit → zM → Prop) (o : Nat) (M : zM) : Prop :=
    (wp_X13_init D (fun _ M => post () M) o M)
set_option maxHeartbeats 4000000 in
set_option maxRecDepth 100000 in
theorem w_X14_init {l : Launch} {D : zD} {post : Unit → zM → Prop} (hlt : l.stackTraces = false) {o : Nat} {M : zM} (hw : wp_X14_init D post o M) : zMet l D yX14_init (ws_ yX14_init cX14_init 1 (none)) rm_X14_init 0 0 [.ref o] M zU post (fun _ _ => False) := by
  unfold wp_X14_init at hw
  have hlv : lv_args 0 [.ref o] = [(0, .ref o)] := (zargs1 rfl rfl)
  refine z_ofW hlt (by decide) (Nat.le_trans (zsl1 rfl (Nat.le_refl 0 : (lg_sl []).length ≤ 0)) (Nat.le_of_ble_eq_true rfl)) hlv ?_
  intro p e s m args below meth c ls hG hZ hl
  have hC := hG.1
  have hx := hC.x
  have hb := hC.b
  have hown := hC.o
  have hts := hC.ts
  have hlt := hG.2.2.2.2.2
  obtain ⟨cells, hce⟩ : ∃ z : Nat, z = 0 := ⟨0, rfl⟩
  obtain ⟨slots, hsl⟩ : ∃ z : Nat, z = 0 := ⟨0, rfl⟩
  refine W.cs (cells' := cells) (slots' := slots) hce.symm hsl.symm ?_
  have hk : cells ≤ 0 := Nat.le_of_eq hce
  have hn : slots ≤ 0 := Nat.le_of_eq hsl
  clear hce hsl
  refine lv_aload_n hx hb dX14_init_0 rfl (lv_at hl 0 rfl) ?_
  refine z_callU hZ (vx_runIN (As := []) (rest := []) hC.fix (w_X13_init hlt hw) ⟨va_cnB 0 hts (lw_meth q631) rfl rfl rfl (hC.nw q629 rfl) (hts _ q89) dd_X13_init ⟨Nat.le_of_ble_eq_true rfl, Nat.le_of_ble_eq_true rfl⟩, rfl, hts _ q630⟩ (z_preS hC hZ) rfl rfl hl.1 rfl (lv_room (Nat.zero_le _)) dX14_init_1 ⟨hk, hn⟩) (fun r4 M H locs hw1 hZ => ?_) (fun q M H locs ci fs E T9 N9 hw hZ hc1 hM1 hb1 => False.elim hw)
  replace hw := hw1
  clear hw1
  refine W.cs (cells' := cells) (slots' := slots) rfl rfl ?_
  exact z_vret hG hZ hk hn hw dX14_init_4
abbrev rm_X10_fault (K N : Nat) : Room := { frames := 5, cells := K, slots := N, locals := 157 }
def wp_X10_fault (D : zD) (post : Option Nat → zM → Prop) (k : Nat) (n : Nat) (o : Nat) (M : zM) : Prop :=
    (znew D M 13 7 [.null, .null, .null, .null, .null, .int 0, .int 0] k n fun b1 M => (zgI M o 9 1 fun g2 => (wp_X15_init D (fun _ M => post (some b1) M) b1 ((-1000 : Int32) - g2) M)))
set_option maxHeartbeats 4000000 in
set_option maxRecDepth 100000 in
theorem w_X10_fault {l : Launch} {D : zD} {post : Option Nat → zM → Prop} (hlt : l.stackTraces = false) {k : Nat} {n : Nat} {o : Nat} {M : zM} (hw : wp_X10_fault D post k n o M) : zMet l D yX10_fault (ws_ yX10_fault cX10_fault 1 (some (.object "PluralBranches$Ends"))) (rm_X10_fault k n) k n [.ref o] M zR post (fun _ _ => False) := by
  unfold wp_X10_fault at hw
  have hlv : lv_args 0 [.ref o] = [(0, .ref o)] := (zargs1 rfl rfl)
  refine z_ofW hlt (by decide) (Nat.le_trans (zsl1 rfl (Nat.le_refl 0 : (lg_sl []).length ≤ 0)) (Nat.le_of_ble_eq_true rfl)) hlv ?_
  intro p e s m args below meth c ls hG hZ hl
  have hC := hG.1
  have hx := hC.x
  have hb := hC.b
  have hown := hC.o
  have hts := hC.ts
  have hlt := hG.2.2.2.2.2
  obtain ⟨cells, hce⟩ : ∃ z : Nat, z = 0 := ⟨0, rfl⟩
  obtain ⟨slots, hsl⟩ : ∃ z : Nat, z = 0 := ⟨0, rfl⟩
  refine W.cs (cells' := cells) (slots' := slots) hce.symm hsl.symm ?_
  have hk : cells + k ≤ k := by omega
  have hn : slots + n ≤ n := by omega
  clear hce hsl
  obtain ⟨hk1, hn1, hw⟩ := hw
  refine z_new (fs := [.null, .null, .null, .null, .null, .int 0, .int 0]) hC hZ zc13 q648 q649 q94 (zdefs (N := 7) (ty := tyX15) (fs := [.null, .null, .null, .null, .null, .int 0, .int 0]) (by decide)) (show cells + 1 ≤ k by omega) (show slots + 7 ≤ n by omega) dX10_fault_0 (fun b6 H hq0 hq1 hZ => ?_)
  replace hw := hw b6 hq0 hq1
  generalize zu M _ _ = M at hw hZ
  have hk : cells + 1 + (k - 1) ≤ k := by omega
  have hn : slots + 7 + (n - 7) ≤ n := by omega
  generalize cells + 1 = cells at hk ⊢
  generalize slots + 7 = slots at hn ⊢
  clear hk1 hn1
  refine lv_dup hx hb dX10_fault_3 rfl ?_
  refine lv_sipush (v := (-1000)) hx hb dX10_fault_4 (by decide) ?_
  refine lv_aload_n hx hb dX10_fault_7 rfl (lv_at hl 0 rfl) ?_
  obtain ⟨fs0, g7, hM0, hx0, hw⟩ := hw
  refine z_get hC hZ hM0 zc9 1 (by decide) q570 (fun _ h9 => h9) hx0 dX10_fault_8 ?_
  refine lv_isub hx hb dX10_fault_11 ?_
  refine z_callU hZ (vx_runI (As := [.int ((-1000 : Int32) - g7)]) (rest := [.ref b6]) hC.fix (w_X15_init hlt hw) (cwI 1 hts (lw_meth q691) rfl rfl rfl (hts _ q94) (hts _ q689) (hts _ q690) rfl dd_X15_init ⟨Nat.le_of_ble_eq_true rfl, Nat.le_of_ble_eq_true rfl⟩) (z_preS hC hZ) rfl rfl hl.1 rfl (lv_room (Nat.le_trans (zrm1 rfl zrm0) (Nat.le_of_ble_eq_true rfl))) dX10_fault_12 ⟨(show cells + 0 ≤ k by omega), (show slots + 0 ≤ n by omega)⟩) (fun r8 M H locs hw1 hZ => ?_) (fun q M H locs ci fs E T9 N9 hw hZ hc1 hM1 hb1 => False.elim hw)
  replace hw := hw1
  clear hw1
  refine W.cs (cells' := cells) (slots' := slots) rfl rfl ?_
  exact z_aret (r := (some b6)) hG (Or.inl ⟨_, rfl⟩) hZ (by omega) (by omega) hw dX10_fault_15
abbrev rm_X10_must (K N : Nat) : Room := { frames := 6, cells := K, slots := N, locals := 177 }
def wp_X10_must (D : zD) (post : Unit → zM → Prop) (xp : Nat → zM → Prop) (k : Nat) (n : Nat) (o : Nat) (a0 : Int32) (M : zM) : Prop :=
    ((¬ a0 = 0 → post () M) ∧ (a0 = 0 → ((zis M o [9] ∧ (∃ k2 n3, k2 ≤ k ∧ n3 ≤ n ∧ wp_X10_fault D (fun r1 M => ((zd r1 fun b4 => zth D M b4 ∧ xp b4 M))) k2 n3 o M)))))
set_option maxHeartbeats 4000000 in
set_option maxRecDepth 100000 in
theorem w_X10_must {l : Launch} {D : zD} {post : Unit → zM → Prop} {xp : Nat → zM → Prop} (hlt : l.stackTraces = false) {k : Nat} {n : Nat} {o : Nat} {a0 : Int32} {M : zM} (hw : wp_X10_must D post xp k n o a0 M) : zMet l D yX10_must (ws_ yX10_must cX10_must 2 (none)) (rm_X10_must k n) k n [.ref o, .int a0] M zU post xp := by
  unfold wp_X10_must at hw
  have hlv : lv_args 0 [.ref o, .int a0] = [(0, .ref o), (1, .int a0)] := (zargs1 rfl (zargs1 rfl rfl))
  refine z_ofW hlt (by decide) (Nat.le_trans (zsl1 rfl (zsl1 rfl (Nat.le_refl 0 : (lg_sl []).length ≤ 0))) (Nat.le_of_ble_eq_true rfl)) hlv ?_
  intro p e s m args below meth c ls hG hZ hl
  have hC := hG.1
  have hx := hC.x
  have hb := hC.b
  have hown := hC.o
  have hts := hC.ts
  have hlt := hG.2.2.2.2.2
  obtain ⟨cells, hce⟩ : ∃ z : Nat, z = 0 := ⟨0, rfl⟩
  obtain ⟨slots, hsl⟩ : ∃ z : Nat, z = 0 := ⟨0, rfl⟩
  refine W.cs (cells' := cells) (slots' := slots) hce.symm hsl.symm ?_
  have hk : cells + k ≤ k := by omega
  have hn : slots + n ≤ n := by omega
  clear hce hsl
  refine lv_iload_n hx hb dX10_must_0 rfl (lv_at hl 1 rfl) ?_
  refine lv_if_ne (tgt := 9) hx hb dX10_must_1 (by decide) (fun c10 => ?_) (fun c10 => ?_)
  · replace hw := hw.1 c10
    exact z_vret hG hZ (by omega) (by omega) hw dX10_must_9
  · replace hw := hw.2 c10
    refine lv_aload_n hx hb dX10_must_4 rfl (lv_at hl 0 rfl) ?_
    obtain ⟨⟨ci0, fs0, hci0, hM0⟩, hw⟩ := hw
    obtain ⟨k7, n8, hk1, hn1, hw⟩ := hw
    obtain rfl : ci0 = 9 := List.mem_singleton.mp hci0
    refine z_callR hZ (vx_runV (As := []) (rest := []) hC.fix (w_X10_fault hlt hw) (cwV 0 hts (lw_V q644 q646 qs10 q86 q647) rfl rfl rfl ⟨rfl, dd_X10_fault⟩ ⟨Nat.le_of_ble_eq_true rfl, Nat.le_of_ble_eq_true rfl⟩) (z_preV hC hZ hM0 zc9) rfl rfl hl.1 rfl (lv_room (Nat.zero_le _)) dX10_must_5 ⟨(show cells + k7 ≤ k by omega), (show slots + n8 ≤ n by omega)⟩) (fun r6 M H locs hw1 hZ => ?_) (fun q M H locs ci fs E T9 N9 hw hZ hc1 hM1 hb1 => False.elim hw)
    replace hw := hw1
    clear hw1
    have hk : cells + k7 + (k - k7) ≤ k := by omega
    have hn : slots + n8 + (n - n8) ≤ n := by omega
    generalize cells + k7 = cells at hk ⊢
    generalize slots + n8 = slots at hn ⊢
    clear hk1 hn1
    obtain ⟨b9, hr0, hw⟩ := hw
    subst hr0
    obtain ⟨⟨ci0, fs0, hci0, hM0, hb0⟩, hw⟩ := hw
    obtain ⟨E0, T0, N0, hc0⟩ := z_cl hci0
    refine vx_athrow hx hb dX10_must_8 ?_
    exact z_out hG hZ hM0 hb0 hc0 za0 (by omega) (by omega) hw
abbrev rm_X10_lies : Room := { frames := 2, cells := 0, slots := 0, locals := 85 }
def wp_X10_lies_L20 (D : zD) (post : Unit → zM → Prop) (o : Nat) (y0 : Option Nat) (y1 : Int32) (M : zM) : Prop :=
    ((zd y0 fun b1 => zp D M b1 9 4 (.int y1) fun M => post () M))
set_option maxHeartbeats 4000000 in
set_option maxRecDepth 100000 in
theorem wk_X10_lies_L20 {p : Program} {l : Launch} {e : Env} {s : State} {m : MethodId} {args : Array Value} {below : List Frame} {meth : Method} {c : Code} {D : zD} {post : Unit → zM → Prop} {o : Nat} (hG : zGx p l s m args meth c cX10_lies 2 "PluralBranches$Reader" D (none) "lies" []) : ∀ {H : Heap} {locs : List Loc} {cells slots : Nat} {ls : Array Slot} (y0 : Option Nat) (y1 : Int32) (M : zM), cells ≤ 0 → slots ≤ 0 → zS D M H locs → lv_has ls 2 [] → wp_X10_lies_L20 D post o y0 y1 M → W p l e rm_X10_lies s m args below meth c H locs cells slots (vx_MQ below (zQ D zU post) (zX D (fun _ _ => False)) args s 0 0 (zA D)) (F0 m 20 ls [.int y1, va_rf y0]) := by
  have hC := hG.1
  have hx := hC.x
  have hb := hC.b
  have hown := hC.o
  have hts := hC.ts
  have hlt := hG.2.2.2.2.2
  intro H locs cells slots ls y0 y1 M hk hn hZ hl hw
  obtain ⟨b3, hr0, hw⟩ := hw
  subst hr0
  obtain ⟨fs0, hM0, hb0, hk0, hw⟩ := hw
  refine z_put hC hZ hM0 hb0 zc9 4 (by decide) q573 (fun _ h9 => h9) (by decide) rfl rfl hk0 dX10_lies_20 (fun H locs hZ => ?_)
  generalize zu M _ _ = M at hw hZ
  exact z_vret hG hZ hk hn hw dX10_lies_23
def wp_X10_lies (D : zD) (post : Unit → zM → Prop) (o : Nat) (a0 : Int32) (M : zM) : Prop :=
    (zgI M o 9 4 fun g5 => ((0 ≤ g5 → (zgI M o 9 4 fun g6 => (wp_J0_min D (fun r7 M => wp_X10_lies_L20 D post o (some o) r7 M) g6 a0 M))) ∧ (¬ 0 ≤ g5 → wp_X10_lies_L20 D post o (some o) a0 M)))
set_option maxHeartbeats 4000000 in
set_option maxRecDepth 100000 in
theorem w_X10_lies {l : Launch} {D : zD} {post : Unit → zM → Prop} (hlt : l.stackTraces = false) {o : Nat} {a0 : Int32} {M : zM} (hw : wp_X10_lies D post o a0 M) : zMet l D yX10_lies (ws_ yX10_lies cX10_lies 2 (none)) rm_X10_lies 0 0 [.ref o, .int a0] M zU post (fun _ _ => False) := by
  unfold wp_X10_lies at hw
  have hlv : lv_args 0 [.ref o, .int a0] = [(0, .ref o), (1, .int a0)] := (zargs1 rfl (zargs1 rfl rfl))
  refine z_ofW hlt (by decide) (Nat.le_trans (zsl1 rfl (zsl1 rfl (Nat.le_refl 0 : (lg_sl []).length ≤ 0))) (Nat.le_of_ble_eq_true rfl)) hlv ?_
  intro p e s m args below meth c ls hG hZ hl
  have hC := hG.1
  have hx := hC.x
  have hb := hC.b
  have hown := hC.o
  have hts := hC.ts
  have hlt := hG.2.2.2.2.2
  obtain ⟨cells, hce⟩ : ∃ z : Nat, z = 0 := ⟨0, rfl⟩
  obtain ⟨slots, hsl⟩ : ∃ z : Nat, z = 0 := ⟨0, rfl⟩
  refine W.cs (cells' := cells) (slots' := slots) hce.symm hsl.symm ?_
  have hk : cells ≤ 0 := Nat.le_of_eq hce
  have hn : slots ≤ 0 := Nat.le_of_eq hsl
  clear hce hsl
  refine lv_aload_n hx hb dX10_lies_0 rfl (lv_at hl 0 rfl) ?_
  refine lv_aload_n hx hb dX10_lies_1 rfl (lv_at hl 0 rfl) ?_
  obtain ⟨fs0, g11, hM0, hx0, hw⟩ := hw
  refine z_get hC hZ hM0 zc9 4 (by decide) q573 (fun _ h9 => h9) hx0 dX10_lies_2 ?_
  refine lv_if_ge (tgt := 12) hx hb dX10_lies_5 (by decide) (fun c16 => ?_) (fun c16 => ?_)
  · replace hw := hw.1 c16
    refine lv_aload_n hx hb dX10_lies_12 rfl (lv_at hl 0 rfl) ?_
    obtain ⟨fs0, g12, hM0, hx0, hw⟩ := hw
    refine z_get hC hZ hM0 zc9 4 (by decide) q573 (fun _ h9 => h9) hx0 dX10_lies_13 ?_
    refine lv_iload_n hx hb dX10_lies_16 rfl (lv_at hl 1 rfl) ?_
    refine z_callI hZ (vx_runS (As := [.int g12, .int a0]) (rest := [.ref o]) hC.fix (w_J0_min hlt hw) (va_cwS 2 hts (lw_S q726 q146 q69 q147) rfl rfl rfl dd_J0_min ⟨Nat.le_of_ble_eq_true rfl, Nat.le_of_ble_eq_true rfl⟩) (z_preS hC hZ) rfl rfl hl.1 rfl (lv_room (Nat.le_trans (zrm1 rfl zrm0) (Nat.le_of_ble_eq_true rfl))) dX10_lies_17 ⟨hk, hn⟩) (fun r13 M H locs hw1 hZ => ?_) (fun q M H locs ci fs E T9 N9 hw hZ hc1 hM1 hb1 => False.elim hw)
    replace hw := hw1
    clear hw1
    refine W.cs (cells' := cells) (slots' := slots) rfl rfl ?_
    exact wk_X10_lies_L20 hG _ _ _ hk hn hZ (lv_sub hl [] rfl) hw
  · replace hw := hw.2 c16
    refine lv_iload_n hx hb dX10_lies_8 rfl (lv_at hl 1 rfl) ?_
    refine lv_goto (tgt := 20) hx hb dX10_lies_9 (by decide) ?_
    exact wk_X10_lies_L20 hG _ _ _ hk hn hZ (lv_sub hl [] rfl) hw
abbrev rm_X10_uses : Room := { frames := 3, cells := 0, slots := 0, locals := 106 }
def wp_X10_uses_L62 (D : zD) (post : Unit → zM → Prop) (o : Nat) (M : zM) : Prop :=
    post () M
set_option maxHeartbeats 4000000 in
set_option maxRecDepth 100000 in
theorem wk_X10_uses_L62 {p : Program} {l : Launch} {e : Env} {s : State} {m : MethodId} {args : Array Value} {below : List Frame} {meth : Method} {c : Code} {D : zD} {post : Unit → zM → Prop} {o : Nat} (hG : zGx p l s m args meth c cX10_uses 4 "PluralBranches$Reader" D (none) "uses" []) : ∀ {H : Heap} {locs : List Loc} {cells slots : Nat} {ls : Array Slot} (M : zM), cells ≤ 0 → slots ≤ 0 → zS D M H locs → lv_has ls 4 [] → wp_X10_uses_L62 D post o M → W p l e rm_X10_uses s m args below meth c H locs cells slots (vx_MQ below (zQ D zU post) (zX D (fun _ _ => False)) args s 0 0 (zA D)) (F0 m 62 ls []) := by
  have hC := hG.1
  have hx := hC.x
  have hb := hC.b
  have hown := hC.o
  have hts := hC.ts
  have hlt := hG.2.2.2.2.2
  intro H locs cells slots ls M hk hn hZ hl hw
  exact z_vret hG hZ hk hn hw dX10_uses_62
def wp_X10_uses (D : zD) (post : Unit → zM → Prop) (o : Nat) (a0 : Int32) (a1 : Int32) (a2 : Int32) (M : zM) : Prop :=
    (zgR M o 9 0 fun g1 => ((zd g1 fun b2 => zgI M b2 10 4 fun g3 => (zp D M b2 10 4 (.int (g3 ||| ((1 : Int32) <<< (a0 &&& 31)))) fun M => ((a1 ≤ 0 → wp_X10_uses_L62 D post o M) ∧ (¬ a1 ≤ 0 → (zgR M o 9 0 fun g4 => ((zd g4 fun b5 => zgR M b5 10 3 fun g6 => ((zd g6 fun b7 => zaI M b7 0 a0 fun v8 => ((v8 = a1 → wp_X10_uses_L62 D post o M) ∧ (¬ v8 = a1 → (zgR M o 9 0 fun g9 => ((zd g9 fun b10 => zgR M b10 10 3 fun g11 => ((zd g11 fun b12 => zaI M b12 0 a0 fun v13 => ((v13 ≤ 0 → (zgR M o 9 0 fun g14 => ((zd g14 fun b15 => zgR M b15 10 3 fun g16 => ((zd g16 fun b17 => zsI D M b17 a0 a1 fun M => wp_X10_uses_L62 D post o M)))))) ∧ (¬ v13 ≤ 0 → ((zis M o [9] ∧ wp_X10_lies D (fun _ M => wp_X10_uses_L62 D post o M) o a2 M))))))))))))))))))))))
set_option maxHeartbeats 4000000 in
set_option maxRecDepth 100000 in
theorem w_X10_uses {l : Launch} {D : zD} {post : Unit → zM → Prop} (hlt : l.stackTraces = false) {o : Nat} {a0 : Int32} {a1 : Int32} {a2 : Int32} {M : zM} (hw : wp_X10_uses D post o a0 a1 a2 M) : zMet l D yX10_uses (ws_ yX10_uses cX10_uses 4 (none)) rm_X10_uses 0 0 [.ref o, .int a0, .int a1, .int a2] M zU post (fun _ _ => False) := by
  unfold wp_X10_uses at hw
  have hlv : lv_args 0 [.ref o, .int a0, .int a1, .int a2] = [(0, .ref o), (1, .int a0), (2, .int a1), (3, .int a2)] := (zargs1 rfl (zargs1 rfl (zargs1 rfl (zargs1 rfl rfl))))
  refine z_ofW hlt (by decide) (Nat.le_trans (zsl1 rfl (zsl1 rfl (zsl1 rfl (zsl1 rfl (Nat.le_refl 0 : (lg_sl []).length ≤ 0))))) (Nat.le_of_ble_eq_true rfl)) hlv ?_
  intro p e s m args below meth c ls hG hZ hl
  have hC := hG.1
  have hx := hC.x
  have hb := hC.b
  have hown := hC.o
  have hts := hC.ts
  have hlt := hG.2.2.2.2.2
  obtain ⟨cells, hce⟩ : ∃ z : Nat, z = 0 := ⟨0, rfl⟩
  obtain ⟨slots, hsl⟩ : ∃ z : Nat, z = 0 := ⟨0, rfl⟩
  refine W.cs (cells' := cells) (slots' := slots) hce.symm hsl.symm ?_
  have hk : cells ≤ 0 := Nat.le_of_eq hce
  have hn : slots ≤ 0 := Nat.le_of_eq hsl
  clear hce hsl
  refine lv_aload_n hx hb dX10_uses_0 rfl (lv_at hl 0 rfl) ?_
  obtain ⟨fs0, g25, hM0, hx0, hw⟩ := hw
  refine z_get hC hZ hM0 zc9 0 (by decide) q569 (fun _ h9 => h9) hx0 dX10_uses_1 ?_
  refine lv_dup hx hb dX10_uses_4 (zcat _) ?_
  obtain ⟨b26, hr0, hw⟩ := hw
  subst hr0
  obtain ⟨fs0, g27, hM0, hx0, hw⟩ := hw
  refine z_getN hC hZ hM0 zc10 4 (by decide) q556 (fun _ h9 => h9) hx0 dX10_uses_5 ?_
  refine lv_iconst (v := 1) hx hb dX10_uses_8 (by decide) ?_
  refine lv_iload_n hx hb dX10_uses_9 rfl (lv_at hl 1 rfl) ?_
  refine lv_ishl hx hb dX10_uses_10 ?_
  refine lv_ior hx hb dX10_uses_11 ?_
  obtain ⟨fs0, hM0, hb0, hk0, hw⟩ := hw
  refine z_putN hC hZ hM0 hb0 zc10 4 (by decide) q556 (fun _ h9 => h9) (by decide) rfl rfl hk0 dX10_uses_12 (fun H locs hZ => ?_)
  generalize zu M _ _ = M at hw hZ
  refine lv_iload_n hx hb dX10_uses_15 rfl (lv_at hl 2 rfl) ?_
  refine lv_if_le (tgt := 62) hx hb dX10_uses_16 (by decide) (fun c47 => ?_) (fun c47 => ?_)
  · replace hw := hw.1 c47
    exact wk_X10_uses_L62 hG _ hk hn hZ (lv_sub hl [] rfl) hw
  · replace hw := hw.2 c47
    refine lv_aload_n hx hb dX10_uses_19 rfl (lv_at hl 0 rfl) ?_
    obtain ⟨fs0, g28, hM0, hx0, hw⟩ := hw
    refine z_get hC hZ hM0 zc9 0 (by decide) q569 (fun _ h9 => h9) hx0 dX10_uses_20 ?_
    obtain ⟨b29, hr0, hw⟩ := hw
    subst hr0
    obtain ⟨fs0, g30, hM0, hx0, hw⟩ := hw
    refine z_getN hC hZ hM0 zc10 3 (by decide) q554 (fun _ h9 => h9) hx0 dX10_uses_23 ?_
    refine lv_iload_n hx hb dX10_uses_26 rfl (lv_at hl 1 rfl) ?_
    obtain ⟨b31, hr0, hw⟩ := hw
    subst hr0
    obtain ⟨n0, f0, hM0, hi0, hw⟩ := hw
    refine z_iald hC hZ hM0 hi0 dX10_uses_27 ?_
    generalize f0 _ = v32 at hw ⊢
    refine lv_iload_n hx hb dX10_uses_28 rfl (lv_at hl 2 rfl) ?_
    refine lv_icmp_eq (tgt := 62) hx hb dX10_uses_29 (by decide) (fun c46 => ?_) (fun c46 => ?_)
    · replace hw := hw.1 c46
      exact wk_X10_uses_L62 hG _ hk hn hZ (lv_sub hl [] rfl) hw
    · replace hw := hw.2 c46
      refine lv_aload_n hx hb dX10_uses_32 rfl (lv_at hl 0 rfl) ?_
      obtain ⟨fs0, g33, hM0, hx0, hw⟩ := hw
      refine z_get hC hZ hM0 zc9 0 (by decide) q569 (fun _ h9 => h9) hx0 dX10_uses_33 ?_
      obtain ⟨b34, hr0, hw⟩ := hw
      subst hr0
      obtain ⟨fs0, g35, hM0, hx0, hw⟩ := hw
      refine z_getN hC hZ hM0 zc10 3 (by decide) q554 (fun _ h9 => h9) hx0 dX10_uses_36 ?_
      refine lv_iload_n hx hb dX10_uses_39 rfl (lv_at hl 1 rfl) ?_
      obtain ⟨b36, hr0, hw⟩ := hw
      subst hr0
      obtain ⟨n0, f0, hM0, hi0, hw⟩ := hw
      refine z_iald hC hZ hM0 hi0 dX10_uses_40 ?_
      generalize f0 _ = v37 at hw ⊢
      refine lv_if_le (tgt := 52) hx hb dX10_uses_41 (by decide) (fun c45 => ?_) (fun c45 => ?_)
      · replace hw := hw.1 c45
        refine lv_aload_n hx hb dX10_uses_52 rfl (lv_at hl 0 rfl) ?_
        obtain ⟨fs0, g38, hM0, hx0, hw⟩ := hw
        refine z_get hC hZ hM0 zc9 0 (by decide) q569 (fun _ h9 => h9) hx0 dX10_uses_53 ?_
        obtain ⟨b39, hr0, hw⟩ := hw
        subst hr0
        obtain ⟨fs0, g40, hM0, hx0, hw⟩ := hw
        refine z_getN hC hZ hM0 zc10 3 (by decide) q554 (fun _ h9 => h9) hx0 dX10_uses_56 ?_
        refine lv_iload_n hx hb dX10_uses_59 rfl (lv_at hl 1 rfl) ?_
        refine lv_iload_n hx hb dX10_uses_60 rfl (lv_at hl 2 rfl) ?_
        obtain ⟨b41, hr0, hw⟩ := hw
        subst hr0
        obtain ⟨n0, f0, hM0, hb0, hi0, hw⟩ := hw
        refine z_iast hC hZ hM0 hb0 hi0 dX10_uses_61 (fun H locs hZ => ?_)
        generalize zu M _ _ = M at hw hZ
        exact wk_X10_uses_L62 hG _ hk hn hZ (lv_sub hl [] rfl) hw
      · replace hw := hw.2 c45
        refine lv_aload_n hx hb dX10_uses_44 rfl (lv_at hl 0 rfl) ?_
        refine lv_iload_n hx hb dX10_uses_45 rfl (lv_at hl 3 rfl) ?_
        obtain ⟨⟨ci0, fs0, hci0, hM0⟩, hw⟩ := hw
        obtain rfl : ci0 = 9 := List.mem_singleton.mp hci0
        refine z_callU hZ (vx_runV (As := [.int a2]) (rest := []) hC.fix (w_X10_lies hlt hw) (cwV 1 hts (lw_V q722 q724 qs13 q86 q725) rfl rfl rfl ⟨rfl, dd_X10_lies⟩ ⟨Nat.le_of_ble_eq_true rfl, Nat.le_of_ble_eq_true rfl⟩) (z_preV hC hZ hM0 zc9) rfl rfl hl.1 rfl (lv_room (Nat.zero_le _)) dX10_uses_46 ⟨hk, hn⟩) (fun r42 M H locs hw1 hZ => ?_) (fun q M H locs ci fs E T9 N9 hw hZ hc1 hM1 hb1 => False.elim hw)
        replace hw := hw1
        clear hw1
        refine W.cs (cells' := cells) (slots' := slots) rfl rfl ?_
        refine lv_goto (tgt := 62) hx hb dX10_uses_49 (by decide) ?_
        exact wk_X10_uses_L62 hG _ hk hn hZ (lv_sub hl [] rfl) hw
abbrev rm_X16_init : Room := { frames := 2, cells := 0, slots := 0, locals := 84 }
def wp_X16_init (D : zD) (post : Unit → zM → Prop) (o : Nat) (a0 : Int32) (M : zM) : Prop :=
    (wp_X13_init D (fun _ M => (zpm D M o [(14, 0), (15, 0), (16, 0), (18, 2), (19, 2)] (.int a0) fun M => post () M)) o M)
set_option maxHeartbeats 4000000 in
set_option maxRecDepth 100000 in
theorem w_X16_init {l : Launch} {D : zD} {post : Unit → zM → Prop} (hlt : l.stackTraces = false) {o : Nat} {a0 : Int32} {M : zM} (hw : wp_X16_init D post o a0 M) : zMet l D yX16_init (ws_ yX16_init cX16_init 2 (none)) rm_X16_init 0 0 [.ref o, .int a0] M zU post (fun _ _ => False) := by
  unfold wp_X16_init at hw
  have hlv : lv_args 0 [.ref o, .int a0] = [(0, .ref o), (1, .int a0)] := (zargs1 rfl (zargs1 rfl rfl))
  refine z_ofW hlt (by decide) (Nat.le_trans (zsl1 rfl (zsl1 rfl (Nat.le_refl 0 : (lg_sl []).length ≤ 0))) (Nat.le_of_ble_eq_true rfl)) hlv ?_
  intro p e s m args below meth c ls hG hZ hl
  have hC := hG.1
  have hx := hC.x
  have hb := hC.b
  have hown := hC.o
  have hts := hC.ts
  have hlt := hG.2.2.2.2.2
  obtain ⟨cells, hce⟩ : ∃ z : Nat, z = 0 := ⟨0, rfl⟩
  obtain ⟨slots, hsl⟩ : ∃ z : Nat, z = 0 := ⟨0, rfl⟩
  refine W.cs (cells' := cells) (slots' := slots) hce.symm hsl.symm ?_
  have hk : cells ≤ 0 := Nat.le_of_eq hce
  have hn : slots ≤ 0 := Nat.le_of_eq hsl
  clear hce hsl
  refine lv_aload_n hx hb dX16_init_0 rfl (lv_at hl 0 rfl) ?_
  refine z_callU hZ (vx_runIN (As := []) (rest := []) hC.fix (w_X13_init hlt hw) ⟨va_cnB 0 hts (lw_meth q631) rfl rfl rfl (hC.nw q732 rfl) (hts _ q89) dd_X13_init ⟨Nat.le_of_ble_eq_true rfl, Nat.le_of_ble_eq_true rfl⟩, rfl, hts _ q630⟩ (z_preS hC hZ) rfl rfl hl.1 rfl (lv_room (Nat.zero_le _)) dX16_init_1 ⟨hk, hn⟩) (fun r5 M H locs hw1 hZ => ?_) (fun q M H locs ci fs E T9 N9 hw hZ hc1 hM1 hb1 => False.elim hw)
  replace hw := hw1
  clear hw1
  refine W.cs (cells' := cells) (slots' := slots) rfl rfl ?_
  refine lv_aload_n hx hb dX16_init_4 rfl (lv_at hl 0 rfl) ?_
  refine lv_iload_n hx hb dX16_init_5 rfl (lv_at hl 1 rfl) ?_
  obtain ⟨q0, fs0, hL0, hM0, hb0, hk0, hw⟩ := hw
  refine z_putFm hC hZ hM0 hb0 (L := [(14, 0), (15, 0), (16, 0), (18, 2), (19, 2)]) (ref := "PluralBranches$Plain") (index := 7) (ty0 := .int) (zal (⟨_, _, _, _, zc14, by decide, q733, (fun _ h9 => h9), rfl, by decide, rfl⟩) (zal (⟨_, _, _, _, zc15, by decide, q733, (fun _ h9 => h9), rfl, by decide, rfl⟩) (zal (⟨_, _, _, _, zc16, by decide, q733, (fun _ h9 => h9), rfl, by decide, rfl⟩) (zal (⟨_, _, _, _, zc18, by decide, q733, (fun _ h9 => h9), rfl, by decide, rfl⟩) (zal (⟨_, _, _, _, zc19, by decide, q733, (fun _ h9 => h9), rfl, by decide, rfl⟩) (za0)))))) hL0 hG.2.2.2.1 rfl rfl hk0 dX16_init_6 (fun H locs hZ => ?_)
  generalize zu M _ _ = M at hw hZ
  exact z_vret hG hZ hk hn hw dX16_init_9
abbrev rm_X10_takes : Room := { frames := 2, cells := 0, slots := 0, locals := 84 }
def wp_X10_takes_L28 (D : zD) (post : Int32 → zM → Prop) (o : Nat) (x2 : Int32) (y0 : Option Nat) (y1 : Int32) (y2 : Int32) (M : zM) : Prop :=
    ((zd y0 fun b1 => zp D M b1 9 1 (.int (y1 + y2)) fun M => (narrow .boolean (.int x2) = .int x2 ∧ post x2 M)))
set_option maxHeartbeats 4000000 in
set_option maxRecDepth 100000 in
theorem wk_X10_takes_L28 {p : Program} {l : Launch} {e : Env} {s : State} {m : MethodId} {args : Array Value} {below : List Frame} {meth : Method} {c : Code} {D : zD} {post : Int32 → zM → Prop} {o : Nat} (hG : zGx p l s m args meth c cX10_takes 3 "PluralBranches$Reader" D (some .boolean) "takes" []) : ∀ {H : Heap} {locs : List Loc} {cells slots : Nat} {ls : Array Slot} (x2 : Int32) (y0 : Option Nat) (y1 : Int32) (y2 : Int32) (M : zM), cells ≤ 0 → slots ≤ 0 → zS D M H locs → lv_has ls 3 [(2, .int x2)] → wp_X10_takes_L28 D post o x2 y0 y1 y2 M → W p l e rm_X10_takes s m args below meth c H locs cells slots (vx_MQ below (zQ D zI post) (zX D (fun _ _ => False)) args s 0 0 (zA D)) (F0 m 28 ls [.int y2, .int y1, va_rf y0]) := by
  have hC := hG.1
  have hx := hC.x
  have hb := hC.b
  have hown := hC.o
  have hts := hC.ts
  have hlt := hG.2.2.2.2.2
  intro H locs cells slots ls x2 y0 y1 y2 M hk hn hZ hl hw
  refine lv_iadd hx hb dX10_takes_28 ?_
  obtain ⟨b3, hr0, hw⟩ := hw
  subst hr0
  obtain ⟨fs0, hM0, hb0, hk0, hw⟩ := hw
  refine z_put hC hZ hM0 hb0 zc9 1 (by decide) q570 (fun _ h9 => h9) (by decide) rfl rfl hk0 dX10_takes_29 (fun H locs hZ => ?_)
  generalize zu M _ _ = M at hw hZ
  refine lv_iload_n hx hb dX10_takes_32 rfl (lv_at hl 0 rfl) ?_
  exact z_zret hG hZ hk hn hw.1 hw.2 dX10_takes_33
def wp_X10_takes_L13 (D : zD) (post : Int32 → zM → Prop) (o : Nat) (y0 : Int32) (M : zM) : Prop :=
    (zgI M o 9 1 fun g5 => ((y0 = 0 → wp_X10_takes_L28 D post o y0 (some o) g5 (0 : Int32) M) ∧ (¬ y0 = 0 → wp_X10_takes_L28 D post o y0 (some o) g5 (1 : Int32) M)))
set_option maxHeartbeats 4000000 in
set_option maxRecDepth 100000 in
theorem wk_X10_takes_L13 {p : Program} {l : Launch} {e : Env} {s : State} {m : MethodId} {args : Array Value} {below : List Frame} {meth : Method} {c : Code} {D : zD} {post : Int32 → zM → Prop} {o : Nat} (hG : zGx p l s m args meth c cX10_takes 3 "PluralBranches$Reader" D (some .boolean) "takes" []) : ∀ {H : Heap} {locs : List Loc} {cells slots : Nat} {ls : Array Slot} (y0 : Int32) (M : zM), cells ≤ 0 → slots ≤ 0 → zS D M H locs → lv_has ls 3 [(0, .ref o)] → wp_X10_takes_L13 D post o y0 M → W p l e rm_X10_takes s m args below meth c H locs cells slots (vx_MQ below (zQ D zI post) (zX D (fun _ _ => False)) args s 0 0 (zA D)) (F0 m 13 ls [.int y0]) := by
  have hC := hG.1
  have hx := hC.x
  have hb := hC.b
  have hown := hC.o
  have hts := hC.ts
  have hlt := hG.2.2.2.2.2
  intro H locs cells slots ls y0 M hk hn hZ hl hw
  refine lv_istore_n (i := 2) (lv' := [(2, .int y0), (0, .ref o)]) hx hb dX10_takes_13 rfl hl (by decide) rfl (fun ls hl1 => ?_)
  replace hl := hl1
  clear hl1
  refine lv_aload_n hx hb dX10_takes_14 rfl (lv_at hl 1 rfl) ?_
  refine lv_dup hx hb dX10_takes_15 rfl ?_
  obtain ⟨fs0, g7, hM0, hx0, hw⟩ := hw
  refine z_get hC hZ hM0 zc9 1 (by decide) q570 (fun _ h9 => h9) hx0 dX10_takes_16 ?_
  refine lv_iload_n hx hb dX10_takes_19 rfl (lv_at hl 0 rfl) ?_
  refine lv_if_eq (tgt := 27) hx hb dX10_takes_20 (by decide) (fun c8 => ?_) (fun c8 => ?_)
  · replace hw := hw.1 c8
    refine lv_iconst (v := 0) hx hb dX10_takes_27 (by decide) ?_
    exact wk_X10_takes_L28 hG _ _ _ _ _ hk hn hZ (lv_sub hl [0] rfl) hw
  · replace hw := hw.2 c8
    refine lv_iconst (v := 1) hx hb dX10_takes_23 (by decide) ?_
    refine lv_goto (tgt := 28) hx hb dX10_takes_24 (by decide) ?_
    exact wk_X10_takes_L28 hG _ _ _ _ _ hk hn hZ (lv_sub hl [0] rfl) hw
def wp_X10_takes (D : zD) (post : Int32 → zM → Prop) (o : Nat) (a0 : Int32) (M : zM) : Prop :=
    ((zis M o [9] ∧ wp_X10_here D (fun r9 M => ((¬ r9 = a0 → wp_X10_takes_L13 D post o (0 : Int32) M) ∧ (r9 = a0 → wp_X10_takes_L13 D post o (1 : Int32) M))) o M))
set_option maxHeartbeats 4000000 in
set_option maxRecDepth 100000 in
theorem w_X10_takes {l : Launch} {D : zD} {post : Int32 → zM → Prop} (hlt : l.stackTraces = false) {o : Nat} {a0 : Int32} {M : zM} (hw : wp_X10_takes D post o a0 M) : zMet l D yX10_takes (ws_ yX10_takes cX10_takes 3 (some .boolean)) rm_X10_takes 0 0 [.ref o, .int a0] M zI post (fun _ _ => False) := by
  unfold wp_X10_takes at hw
  have hlv : lv_args 0 [.ref o, .int a0] = [(0, .ref o), (1, .int a0)] := (zargs1 rfl (zargs1 rfl rfl))
  refine z_ofW hlt (by decide) (Nat.le_trans (zsl1 rfl (zsl1 rfl (Nat.le_refl 0 : (lg_sl []).length ≤ 0))) (Nat.le_of_ble_eq_true rfl)) hlv ?_
  intro p e s m args below meth c ls hG hZ hl
  have hC := hG.1
  have hx := hC.x
  have hb := hC.b
  have hown := hC.o
  have hts := hC.ts
  have hlt := hG.2.2.2.2.2
  obtain ⟨cells, hce⟩ : ∃ z : Nat, z = 0 := ⟨0, rfl⟩
  obtain ⟨slots, hsl⟩ : ∃ z : Nat, z = 0 := ⟨0, rfl⟩
  refine W.cs (cells' := cells) (slots' := slots) hce.symm hsl.symm ?_
  have hk : cells ≤ 0 := Nat.le_of_eq hce
  have hn : slots ≤ 0 := Nat.le_of_eq hsl
  clear hce hsl
  refine lv_aload_n hx hb dX10_takes_0 rfl (lv_at hl 0 rfl) ?_
  obtain ⟨⟨ci0, fs0, hci0, hM0⟩, hw⟩ := hw
  obtain rfl : ci0 = 9 := List.mem_singleton.mp hci0
  refine z_callI hZ (vx_runV (As := []) (rest := []) hC.fix (w_X10_here hlt hw) (cwV 0 hts (lw_V q613 q615 qs6 q86 q616) rfl rfl rfl ⟨rfl, dd_X10_here⟩ ⟨Nat.le_of_ble_eq_true rfl, Nat.le_of_ble_eq_true rfl⟩) (z_preV hC hZ hM0 zc9) rfl rfl hl.1 rfl (lv_room (Nat.zero_le _)) dX10_takes_1 ⟨hk, hn⟩) (fun r13 M H locs hw1 hZ => ?_) (fun q M H locs ci fs E T9 N9 hw hZ hc1 hM1 hb1 => False.elim hw)
  replace hw := hw1
  clear hw1
  refine W.cs (cells' := cells) (slots' := slots) rfl rfl ?_
  refine lv_iload_n hx hb dX10_takes_4 rfl (lv_at hl 1 rfl) ?_
  refine lv_icmp_ne (tgt := 12) hx hb dX10_takes_5 (by decide) (fun c16 => ?_) (fun c16 => ?_)
  · replace hw := hw.1 c16
    refine lv_iconst (v := 0) hx hb dX10_takes_12 (by decide) ?_
    exact wk_X10_takes_L13 hG _ _ hk hn hZ (lv_sub hl [0] rfl) hw
  · replace hw := hw.2 c16
    refine lv_iconst (v := 1) hx hb dX10_takes_8 (by decide) ?_
    refine lv_goto (tgt := 13) hx hb dX10_takes_9 (by decide) ?_
    exact wk_X10_takes_L13 hG _ _ hk hn hZ (lv_sub hl [0] rfl) hw
abbrev rm_X10_wants (K N : Nat) : Room := { frames := 7, cells := K, slots := N, locals := 198 }
def wp_X10_wants (D : zD) (post : Unit → zM → Prop) (xp : Nat → zM → Prop) (k : Nat) (n : Nat) (o : Nat) (a0 : Int32) (M : zM) : Prop :=
    ((zis M o [9] ∧ wp_X10_takes D (fun r1 M => ((zis M o [9] ∧ (∃ k5 n6, k5 ≤ k ∧ n6 ≤ n ∧ wp_X10_must D (fun _ M => post () M) xp k5 n6 o r1 M)))) o a0 M))
set_option maxHeartbeats 4000000 in
set_option maxRecDepth 100000 in
theorem w_X10_wants {l : Launch} {D : zD} {post : Unit → zM → Prop} {xp : Nat → zM → Prop} (hlt : l.stackTraces = false) {k : Nat} {n : Nat} {o : Nat} {a0 : Int32} {M : zM} (hw : wp_X10_wants D post xp k n o a0 M) : zMet l D yX10_wants (ws_ yX10_wants cX10_wants 2 (none)) (rm_X10_wants k n) k n [.ref o, .int a0] M zU post xp := by
  unfold wp_X10_wants at hw
  have hlv : lv_args 0 [.ref o, .int a0] = [(0, .ref o), (1, .int a0)] := (zargs1 rfl (zargs1 rfl rfl))
  refine z_ofW hlt (by decide) (Nat.le_trans (zsl1 rfl (zsl1 rfl (Nat.le_refl 0 : (lg_sl []).length ≤ 0))) (Nat.le_of_ble_eq_true rfl)) hlv ?_
  intro p e s m args below meth c ls hG hZ hl
  have hC := hG.1
  have hx := hC.x
  have hb := hC.b
  have hown := hC.o
  have hts := hC.ts
  have hlt := hG.2.2.2.2.2
  obtain ⟨cells, hce⟩ : ∃ z : Nat, z = 0 := ⟨0, rfl⟩
  obtain ⟨slots, hsl⟩ : ∃ z : Nat, z = 0 := ⟨0, rfl⟩
  refine W.cs (cells' := cells) (slots' := slots) hce.symm hsl.symm ?_
  have hk : cells + k ≤ k := by omega
  have hn : slots + n ≤ n := by omega
  clear hce hsl
  refine lv_aload_n hx hb dX10_wants_0 rfl (lv_at hl 0 rfl) ?_
  refine lv_aload_n hx hb dX10_wants_1 rfl (lv_at hl 0 rfl) ?_
  refine lv_iload_n hx hb dX10_wants_2 rfl (lv_at hl 1 rfl) ?_
  obtain ⟨⟨ci0, fs0, hci0, hM0⟩, hw⟩ := hw
  obtain rfl : ci0 = 9 := List.mem_singleton.mp hci0
  refine z_callI hZ (vx_runV (As := [.int a0]) (rest := [.ref o]) hC.fix (w_X10_takes hlt hw) (cwV 1 hts (lw_V q751 q753 qs15 q86 q754) rfl rfl rfl ⟨rfl, dd_X10_takes⟩ ⟨Nat.le_of_ble_eq_true rfl, Nat.le_of_ble_eq_true rfl⟩) (z_preV hC hZ hM0 zc9) rfl rfl hl.1 rfl (lv_room (Nat.le_trans (zrm1 rfl zrm0) (Nat.le_of_ble_eq_true rfl))) dX10_wants_3 ⟨(show cells + 0 ≤ k by omega), (show slots + 0 ≤ n by omega)⟩) (fun r7 M H locs hw1 hZ => ?_) (fun q M H locs ci fs E T9 N9 hw hZ hc1 hM1 hb1 => False.elim hw)
  replace hw := hw1
  clear hw1
  refine W.cs (cells' := cells) (slots' := slots) rfl rfl ?_
  obtain ⟨⟨ci0, fs0, hci0, hM0⟩, hw⟩ := hw
  obtain ⟨k11, n12, hk1, hn1, hw⟩ := hw
  obtain rfl : ci0 = 9 := List.mem_singleton.mp hci0
  refine z_callU hZ (vx_runV (As := [.int r7]) (rest := []) hC.fix (w_X10_must hlt hw) (cwV 1 hts (lw_V q640 q642 qs9 q86 q643) rfl rfl rfl ⟨rfl, dd_X10_must⟩ ⟨Nat.le_of_ble_eq_true rfl, Nat.le_of_ble_eq_true rfl⟩) (z_preV hC hZ hM0 zc9) rfl rfl hl.1 rfl (lv_room (Nat.zero_le _)) dX10_wants_6 ⟨(show cells + k11 ≤ k by omega), (show slots + n12 ≤ n by omega)⟩) (fun r10 M H locs hw1 hZ => ?_) (fun q M H locs ci fs E T9 N9 hw1 hZ hc1 hM1 hb1 => ?_)
  · replace hw := hw1
    clear hw1
    have hk : cells + k11 + (k - k11) ≤ k := by omega
    have hn : slots + n12 + (n - n12) ≤ n := by omega
    generalize cells + k11 = cells at hk ⊢
    generalize slots + n12 = slots at hn ⊢
    clear hk1 hn1
    exact z_vret hG hZ (by omega) (by omega) hw dX10_wants_9
  · replace hw := hw1
    clear hw1
    exact z_out hG hZ hM1 hb1 hc1 za0 (by omega) (by omega) hw
abbrev rm_X17_init : Room := { frames := 3, cells := 0, slots := 0, locals := 105 }
def wp_X17_init (D : zD) (post : Unit → zM → Prop) (o : Nat) (a0 : Int32) (M : zM) : Prop :=
    (wp_X16_init D (fun _ M => post () M) o a0 M)
set_option maxHeartbeats 4000000 in
set_option maxRecDepth 100000 in
theorem w_X17_init {l : Launch} {D : zD} {post : Unit → zM → Prop} (hlt : l.stackTraces = false) {o : Nat} {a0 : Int32} {M : zM} (hw : wp_X17_init D post o a0 M) : zMet l D yX17_init (ws_ yX17_init cX17_init 2 (none)) rm_X17_init 0 0 [.ref o, .int a0] M zU post (fun _ _ => False) := by
  unfold wp_X17_init at hw
  have hlv : lv_args 0 [.ref o, .int a0] = [(0, .ref o), (1, .int a0)] := (zargs1 rfl (zargs1 rfl rfl))
  refine z_ofW hlt (by decide) (Nat.le_trans (zsl1 rfl (zsl1 rfl (Nat.le_refl 0 : (lg_sl []).length ≤ 0))) (Nat.le_of_ble_eq_true rfl)) hlv ?_
  intro p e s m args below meth c ls hG hZ hl
  have hC := hG.1
  have hx := hC.x
  have hb := hC.b
  have hown := hC.o
  have hts := hC.ts
  have hlt := hG.2.2.2.2.2
  obtain ⟨cells, hce⟩ : ∃ z : Nat, z = 0 := ⟨0, rfl⟩
  obtain ⟨slots, hsl⟩ : ∃ z : Nat, z = 0 := ⟨0, rfl⟩
  refine W.cs (cells' := cells) (slots' := slots) hce.symm hsl.symm ?_
  have hk : cells ≤ 0 := Nat.le_of_eq hce
  have hn : slots ≤ 0 := Nat.le_of_eq hsl
  clear hce hsl
  refine lv_aload_n hx hb dX17_init_0 rfl (lv_at hl 0 rfl) ?_
  refine lv_iload_n hx hb dX17_init_1 rfl (lv_at hl 1 rfl) ?_
  refine z_callU hZ (vx_runI (As := [.int a0]) (rest := []) hC.fix (w_X16_init hlt hw) (cwI 1 hts (lw_meth q731) rfl rfl rfl (hts _ q95) (hts _ q760) (hts _ q730) rfl dd_X16_init ⟨Nat.le_of_ble_eq_true rfl, Nat.le_of_ble_eq_true rfl⟩) (z_preS hC hZ) rfl rfl hl.1 rfl (lv_room (Nat.zero_le _)) dX17_init_2 ⟨hk, hn⟩) (fun r4 M H locs hw1 hZ => ?_) (fun q M H locs ci fs E T9 N9 hw hZ hc1 hM1 hb1 => False.elim hw)
  replace hw := hw1
  clear hw1
  refine W.cs (cells' := cells) (slots' := slots) rfl rfl ?_
  exact z_vret hG hZ hk hn hw dX17_init_5
abbrev rm_X10_some : Room := { frames := 3, cells := 0, slots := 0, locals := 106 }
def wp_X10_some_L21 (D : zD) (post : Int32 → zM → Prop) (o : Nat) (x3 : Int32) (M : zM) : Prop :=
    post x3 M
set_option maxHeartbeats 4000000 in
set_option maxRecDepth 100000 in
theorem wk_X10_some_L21 {p : Program} {l : Launch} {e : Env} {s : State} {m : MethodId} {args : Array Value} {below : List Frame} {meth : Method} {c : Code} {D : zD} {post : Int32 → zM → Prop} {o : Nat} (hG : zGx p l s m args meth c cX10_some 4 "PluralBranches$Reader" D (some .int) "some" []) : ∀ {H : Heap} {locs : List Loc} {cells slots : Nat} {ls : Array Slot} (x3 : Int32) (M : zM), cells ≤ 0 → slots ≤ 0 → zS D M H locs → lv_has ls 4 [(3, .int x3)] → wp_X10_some_L21 D post o x3 M → W p l e rm_X10_some s m args below meth c H locs cells slots (vx_MQ below (zQ D zI post) (zX D (fun _ _ => False)) args s 0 0 (zA D)) (F0 m 21 ls []) := by
  have hC := hG.1
  have hx := hC.x
  have hb := hC.b
  have hown := hC.o
  have hts := hC.ts
  have hlt := hG.2.2.2.2.2
  intro H locs cells slots ls x3 M hk hn hZ hl hw
  refine lv_iload_n hx hb dX10_some_21 rfl (lv_at hl 0 rfl) ?_
  exact z_iret hG hZ hk hn hw dX10_some_22
def wp_X10_some_L2 (D : zD) (post : Int32 → zM → Prop) (o : Nat) : Nat → Int32 → Int32 → Int32 → zM → Prop
  | 0 => fun _ _ _ _ => False
  | f + 1 => fun x1 x2 x3 M =>
    ((x2 ≤ x3 → wp_X10_some_L21 D post o x3 M) ∧ (¬ x2 ≤ x3 → ((zis M o [9] ∧ wp_X10_takes D (fun r1 M => ((r1 = 0 → wp_X10_some_L21 D post o x3 M) ∧ (¬ r1 = 0 → wp_X10_some_L2 D post o f x1 x2 (x3 + 1) M))) o x1 M))))
set_option maxHeartbeats 4000000 in
set_option maxRecDepth 100000 in
theorem wk_X10_some_L2 {p : Program} {l : Launch} {e : Env} {s : State} {m : MethodId} {args : Array Value} {below : List Frame} {meth : Method} {c : Code} {D : zD} {post : Int32 → zM → Prop} {o : Nat} (hG : zGx p l s m args meth c cX10_some 4 "PluralBranches$Reader" D (some .int) "some" []) : ∀ (f : Nat), ∀ {H : Heap} {locs : List Loc} {cells slots : Nat} {ls : Array Slot} (x1 : Int32) (x2 : Int32) (x3 : Int32) (M : zM), cells ≤ 0 → slots ≤ 0 → zS D M H locs → lv_has ls 4 [(0, .ref o), (1, .int x1), (2, .int x2), (3, .int x3)] → wp_X10_some_L2 D post o f x1 x2 x3 M → W p l e rm_X10_some s m args below meth c H locs cells slots (vx_MQ below (zQ D zI post) (zX D (fun _ _ => False)) args s 0 0 (zA D)) (F0 m 2 ls []) := by
  have hC := hG.1
  have hx := hC.x
  have hb := hC.b
  have hown := hC.o
  have hts := hC.ts
  have hlt := hG.2.2.2.2.2
  intro f
  induction f with
  | zero =>
    intro H locs cells slots ls x1 x2 x3 M hk hn hZ hl hw
    exact absurd hw (fun h => h)
  | succ f ih =>
    intro H locs cells slots ls x1 x2 x3 M hk hn hZ hl hw
    refine lv_iload_n hx hb dX10_some_2 rfl (lv_at hl 3 rfl) ?_
    refine lv_iload_n hx hb dX10_some_3 rfl (lv_at hl 2 rfl) ?_
    refine lv_icmp_ge (tgt := 21) hx hb dX10_some_4 (by decide) (fun c10 => ?_) (fun c10 => ?_)
    · replace hw := hw.1 c10
      exact wk_X10_some_L21 hG _ _ hk hn hZ (lv_sub hl [3] rfl) hw
    · replace hw := hw.2 c10
      refine lv_aload_n hx hb dX10_some_7 rfl (lv_at hl 0 rfl) ?_
      refine lv_iload_n hx hb dX10_some_8 rfl (lv_at hl 1 rfl) ?_
      obtain ⟨⟨ci0, fs0, hci0, hM0⟩, hw⟩ := hw
      obtain rfl : ci0 = 9 := List.mem_singleton.mp hci0
      refine z_callI hZ (vx_runV (As := [.int x1]) (rest := []) hC.fix (w_X10_takes hlt hw) (cwV 1 hts (lw_V q751 q753 qs15 q86 q754) rfl rfl rfl ⟨rfl, dd_X10_takes⟩ ⟨Nat.le_of_ble_eq_true rfl, Nat.le_of_ble_eq_true rfl⟩) (z_preV hC hZ hM0 zc9) rfl rfl hl.1 rfl (lv_room (Nat.zero_le _)) dX10_some_9 ⟨hk, hn⟩) (fun r6 M H locs hw1 hZ => ?_) (fun q M H locs ci fs E T9 N9 hw hZ hc1 hM1 hb1 => False.elim hw)
      replace hw := hw1
      clear hw1
      refine W.cs (cells' := cells) (slots' := slots) rfl rfl ?_
      refine lv_if_eq (tgt := 21) hx hb dX10_some_12 (by decide) (fun c9 => ?_) (fun c9 => ?_)
      · replace hw := hw.1 c9
        exact wk_X10_some_L21 hG _ _ hk hn hZ (lv_sub hl [3] rfl) hw
      · replace hw := hw.2 c9
        refine lv_iinc (v := (x3 + 1)) (lv' := [(3, .int (x3 + 1)), (0, .ref o), (1, .int x1), (2, .int x2)]) hx hb dX10_some_15 hl (k := 3) rfl rfl (by decide) rfl (fun ls hl1 => ?_)
        replace hl := hl1
        clear hl1
        refine lv_goto (tgt := 2) hx hb dX10_some_18 (by decide) ?_
        exact ih _ _ _ _ hk hn hZ (lv_sub hl [1, 2, 3, 0] rfl) hw
def wp_X10_some (D : zD) (post : Int32 → zM → Prop) (o : Nat) (a0 : Int32) (a1 : Int32) (M : zM) : Prop :=
    (∃ f, wp_X10_some_L2 D post o f a0 a1 (0 : Int32) M)
set_option maxHeartbeats 4000000 in
set_option maxRecDepth 100000 in
theorem w_X10_some {l : Launch} {D : zD} {post : Int32 → zM → Prop} (hlt : l.stackTraces = false) {o : Nat} {a0 : Int32} {a1 : Int32} {M : zM} (hw : wp_X10_some D post o a0 a1 M) : zMet l D yX10_some (ws_ yX10_some cX10_some 4 (some .int)) rm_X10_some 0 0 [.ref o, .int a0, .int a1] M zI post (fun _ _ => False) := by
  unfold wp_X10_some at hw
  have hlv : lv_args 0 [.ref o, .int a0, .int a1] = [(0, .ref o), (1, .int a0), (2, .int a1)] := (zargs1 rfl (zargs1 rfl (zargs1 rfl rfl)))
  refine z_ofW hlt (by decide) (Nat.le_trans (zsl1 rfl (zsl1 rfl (zsl1 rfl (Nat.le_refl 0 : (lg_sl []).length ≤ 0)))) (Nat.le_of_ble_eq_true rfl)) hlv ?_
  intro p e s m args below meth c ls hG hZ hl
  have hC := hG.1
  have hx := hC.x
  have hb := hC.b
  have hown := hC.o
  have hts := hC.ts
  have hlt := hG.2.2.2.2.2
  obtain ⟨cells, hce⟩ : ∃ z : Nat, z = 0 := ⟨0, rfl⟩
  obtain ⟨slots, hsl⟩ : ∃ z : Nat, z = 0 := ⟨0, rfl⟩
  refine W.cs (cells' := cells) (slots' := slots) hce.symm hsl.symm ?_
  have hk : cells ≤ 0 := Nat.le_of_eq hce
  have hn : slots ≤ 0 := Nat.le_of_eq hsl
  clear hce hsl
  refine lv_iconst (v := 0) hx hb dX10_some_0 (by decide) ?_
  refine lv_istore_n (i := 3) (lv' := [(3, .int (0 : Int32)), (0, .ref o), (1, .int a0), (2, .int a1)]) hx hb dX10_some_1 rfl hl (by decide) rfl (fun ls hl1 => ?_)
  replace hl := hl1
  clear hl1
  obtain ⟨f1, hw⟩ := hw
  exact wk_X10_some_L2 hG f1 _ _ _ _ hk hn hZ (lv_sub hl [1, 2, 3, 0] rfl) hw
abbrev rm_X19_init : Room := { frames := 1, cells := 0, slots := 0, locals := 64 }
def wp_X19_init (D : zD) (post : Unit → zM → Prop) (o : Nat) (a0 : Int32) (a1 : Int32) (a2 : Int32) (a3 : Int32) (M : zM) : Prop :=
    (narrow .boolean (.int a0) = .int a0 ∧ fits .boolean (.int a0) = true ∧ zp D M o 17 0 (.int a0) fun M => (zp D M o 17 1 (.int a1) fun M => (zp D M o 17 2 (.int a2) fun M => (zp D M o 17 3 (.int (a2 + a3)) fun M => post () M))))
set_option maxHeartbeats 4000000 in
set_option maxRecDepth 100000 in
theorem w_X19_init {l : Launch} {D : zD} {post : Unit → zM → Prop} (hlt : l.stackTraces = false) {o : Nat} {a0 : Int32} {a1 : Int32} {a2 : Int32} {a3 : Int32} {M : zM} (hw : wp_X19_init D post o a0 a1 a2 a3 M) : zMet l D yX19_init (ws_ yX19_init cX19_init 5 (none)) rm_X19_init 0 0 [.ref o, .int a0, .int a1, .int a2, .int a3] M zU post (fun _ _ => False) := by
  unfold wp_X19_init at hw
  have hlv : lv_args 0 [.ref o, .int a0, .int a1, .int a2, .int a3] = [(0, .ref o), (1, .int a0), (2, .int a1), (3, .int a2), (4, .int a3)] := (zargs1 rfl (zargs1 rfl (zargs1 rfl (zargs1 rfl (zargs1 rfl rfl)))))
  refine z_ofW hlt (by decide) (Nat.le_trans (zsl1 rfl (zsl1 rfl (zsl1 rfl (zsl1 rfl (zsl1 rfl (Nat.le_refl 0 : (lg_sl []).length ≤ 0)))))) (Nat.le_of_ble_eq_true rfl)) hlv ?_
  intro p e s m args below meth c ls hG hZ hl
  have hC := hG.1
  have hx := hC.x
  have hb := hC.b
  have hown := hC.o
  have hts := hC.ts
  have hlt := hG.2.2.2.2.2
  obtain ⟨cells, hce⟩ : ∃ z : Nat, z = 0 := ⟨0, rfl⟩
  obtain ⟨slots, hsl⟩ : ∃ z : Nat, z = 0 := ⟨0, rfl⟩
  refine W.cs (cells' := cells) (slots' := slots) hce.symm hsl.symm ?_
  have hk : cells ≤ 0 := Nat.le_of_eq hce
  have hn : slots ≤ 0 := Nat.le_of_eq hsl
  clear hce hsl
  refine lv_aload_n hx hb dX19_init_0 rfl (lv_at hl 0 rfl) ?_
  refine W.objInit hx hb hown (hts _ q778) (hts _ q124) (hts _ q125) rfl (by rw [hC.ml]; exact hl.1) rfl dX19_init_1 (Nat.le_of_ble_eq_true rfl) (Nat.le_of_ble_eq_true rfl) ?_
  refine W.eq (g2 := F0 m 4 ls []) rfl ?_
  refine lv_aload_n hx hb dX19_init_4 rfl (lv_at hl 0 rfl) ?_
  refine lv_iload_n hx hb dX19_init_5 rfl (lv_at hl 1 rfl) ?_
  obtain ⟨hn0, hf0, hw⟩ := hw
  obtain ⟨fs0, hM0, hb0, hk0, hw⟩ := hw
  refine z_putF hC hZ hM0 hb0 zc17 0 (by decide) q779 (fun _ h9 => h9) (by decide) hG.2.2.2.1 rfl hn0 hf0 hk0 dX19_init_6 (fun H locs hZ => ?_)
  generalize zu M _ _ = M at hw hZ
  refine lv_aload_n hx hb dX19_init_9 rfl (lv_at hl 0 rfl) ?_
  refine lv_iload_n hx hb dX19_init_10 rfl (lv_at hl 2 rfl) ?_
  obtain ⟨fs0, hM0, hb0, hk0, hw⟩ := hw
  refine z_putF hC hZ hM0 hb0 zc17 1 (by decide) q780 (fun _ h9 => h9) (by decide) hG.2.2.2.1 rfl rfl rfl hk0 dX19_init_11 (fun H locs hZ => ?_)
  generalize zu M _ _ = M at hw hZ
  refine lv_aload_n hx hb dX19_init_14 rfl (lv_at hl 0 rfl) ?_
  refine lv_iload_n hx hb dX19_init_15 rfl (lv_at hl 3 rfl) ?_
  obtain ⟨fs0, hM0, hb0, hk0, hw⟩ := hw
  refine z_putF hC hZ hM0 hb0 zc17 2 (by decide) q781 (fun _ h9 => h9) (by decide) hG.2.2.2.1 rfl rfl rfl hk0 dX19_init_16 (fun H locs hZ => ?_)
  generalize zu M _ _ = M at hw hZ
  refine lv_aload_n hx hb dX19_init_19 rfl (lv_at hl 0 rfl) ?_
  refine lv_iload_n hx hb dX19_init_20 rfl (lv_at hl 3 rfl) ?_
  refine lv_iload hx hb dX19_init_21 (lv_at hl 4 rfl) ?_
  refine lv_iadd hx hb dX19_init_23 ?_
  obtain ⟨fs0, hM0, hb0, hk0, hw⟩ := hw
  refine z_putF hC hZ hM0 hb0 zc17 3 (by decide) q782 (fun _ h9 => h9) (by decide) hG.2.2.2.1 rfl rfl rfl hk0 dX19_init_24 (fun H locs hZ => ?_)
  generalize zu M _ _ = M at hw hZ
  exact z_vret hG hZ hk hn hw dX19_init_27
abbrev rm_X19_init_2 : Room := { frames := 2, cells := 0, slots := 0, locals := 88 }
def wp_X19_init_2 (D : zD) (post : Unit → zM → Prop) (o : Nat) (a0 : Int32) (M : zM) : Prop :=
    (wp_X19_init D (fun _ M => post () M) o (0 : Int32) a0 (0 : Int32) (0 : Int32) M)
set_option maxHeartbeats 4000000 in
set_option maxRecDepth 100000 in
theorem w_X19_init_2 {l : Launch} {D : zD} {post : Unit → zM → Prop} (hlt : l.stackTraces = false) {o : Nat} {a0 : Int32} {M : zM} (hw : wp_X19_init_2 D post o a0 M) : zMet l D yX19_init_2 (ws_ yX19_init_2 cX19_init_2 2 (none)) rm_X19_init_2 0 0 [.ref o, .int a0] M zU post (fun _ _ => False) := by
  unfold wp_X19_init_2 at hw
  have hlv : lv_args 0 [.ref o, .int a0] = [(0, .ref o), (1, .int a0)] := (zargs1 rfl (zargs1 rfl rfl))
  refine z_ofW hlt (by decide) (Nat.le_trans (zsl1 rfl (zsl1 rfl (Nat.le_refl 0 : (lg_sl []).length ≤ 0))) (Nat.le_of_ble_eq_true rfl)) hlv ?_
  intro p e s m args below meth c ls hG hZ hl
  have hC := hG.1
  have hx := hC.x
  have hb := hC.b
  have hown := hC.o
  have hts := hC.ts
  have hlt := hG.2.2.2.2.2
  obtain ⟨cells, hce⟩ : ∃ z : Nat, z = 0 := ⟨0, rfl⟩
  obtain ⟨slots, hsl⟩ : ∃ z : Nat, z = 0 := ⟨0, rfl⟩
  refine W.cs (cells' := cells) (slots' := slots) hce.symm hsl.symm ?_
  have hk : cells ≤ 0 := Nat.le_of_eq hce
  have hn : slots ≤ 0 := Nat.le_of_eq hsl
  clear hce hsl
  refine lv_aload_n hx hb dX19_init_2_0 rfl (lv_at hl 0 rfl) ?_
  refine lv_iconst (v := 0) hx hb dX19_init_2_1 (by decide) ?_
  refine lv_iload_n hx hb dX19_init_2_2 rfl (lv_at hl 1 rfl) ?_
  refine lv_iconst (v := 0) hx hb dX19_init_2_3 (by decide) ?_
  refine lv_iconst (v := 0) hx hb dX19_init_2_4 (by decide) ?_
  refine z_callU hZ (vx_runI (As := [.int (0 : Int32), .int a0, .int (0 : Int32), .int (0 : Int32)]) (rest := []) hC.fix (w_X19_init hlt hw) (cwI 4 hts (lw_meth q777) rfl rfl rfl (hts _ q98) (hts _ q795) (hts _ q776) rfl dd_X19_init ⟨Nat.le_of_ble_eq_true rfl, Nat.le_of_ble_eq_true rfl⟩) (z_preS hC hZ) rfl rfl hl.1 rfl (lv_room (Nat.zero_le _)) dX19_init_2_5 ⟨hk, hn⟩) (fun r4 M H locs hw1 hZ => ?_) (fun q M H locs ci fs E T9 N9 hw hZ hc1 hM1 hb1 => False.elim hw)
  replace hw := hw1
  clear hw1
  refine W.cs (cells' := cells) (slots' := slots) rfl rfl ?_
  exact z_vret hG hZ hk hn hw dX19_init_2_8
abbrev rm_X10_pattern (K N : Nat) : Room := { frames := 8, cells := K, slots := N, locals := 219 }
def wp_X10_pattern_L115 (D : zD) (post : Option Nat → zM → Prop) (xp : Nat → zM → Prop) (o : Nat) (k : Nat) (n : Nat) (y0 : Option Nat) (M : zM) : Prop :=
    post y0 M
set_option maxHeartbeats 4000000 in
set_option maxRecDepth 100000 in
theorem wk_X10_pattern_L115 {p : Program} {l : Launch} {e : Env} {s : State} {m : MethodId} {args : Array Value} {below : List Frame} {meth : Method} {c : Code} {D : zD} {post : Option Nat → zM → Prop} {xp : Nat → zM → Prop} {K N : Nat} {o : Nat} (hG : zGx p l s m args meth c cX10_pattern 5 "PluralBranches$Reader" D (some (.object "PluralBranches$Pattern")) "pattern" []) : ∀ {H : Heap} {locs : List Loc} {cells slots : Nat} {ls : Array Slot} (k : Nat) (n : Nat) (y0 : Option Nat) (M : zM), cells + k ≤ K → slots + n ≤ N → zS D M H locs → lv_has ls 5 [] → wp_X10_pattern_L115 D post xp o k n y0 M → W p l e (rm_X10_pattern K N) s m args below meth c H locs cells slots (vx_MQ below (zQ D zR post) (zX D xp) args s K N (zA D)) (F0 m 115 ls [va_rf y0]) := by
  have hC := hG.1
  have hx := hC.x
  have hb := hC.b
  have hown := hC.o
  have hts := hC.ts
  have hlt := hG.2.2.2.2.2
  intro H locs cells slots ls k n y0 M hk hn hZ hl hw
  exact z_aret (r := y0) hG (Or.inl ⟨_, rfl⟩) hZ (by omega) (by omega) hw dX10_pattern_115
def wp_X10_pattern_L92 (D : zD) (post : Option Nat → zM → Prop) (xp : Nat → zM → Prop) (o : Nat) (k : Nat) (n : Nat) (x1 : Int32) (x2 : Int32) (x3 : Int32) (x4 : Int32) (M : zM) : Prop :=
    (znew D M 17 4 [.int 0, .int 0, .int 0, .int 0] k n fun b1 M => (wp_X19_init D (fun _ M => wp_X10_pattern_L115 D post xp o (k - 1) (n - 4) (some b1) M) b1 x1 x2 x3 x4 M))
set_option maxHeartbeats 4000000 in
set_option maxRecDepth 100000 in
theorem wk_X10_pattern_L92 {p : Program} {l : Launch} {e : Env} {s : State} {m : MethodId} {args : Array Value} {below : List Frame} {meth : Method} {c : Code} {D : zD} {post : Option Nat → zM → Prop} {xp : Nat → zM → Prop} {K N : Nat} {o : Nat} (hG : zGx p l s m args meth c cX10_pattern 5 "PluralBranches$Reader" D (some (.object "PluralBranches$Pattern")) "pattern" []) : ∀ {H : Heap} {locs : List Loc} {cells slots : Nat} {ls : Array Slot} (k : Nat) (n : Nat) (x1 : Int32) (x2 : Int32) (x3 : Int32) (x4 : Int32) (M : zM), cells + k ≤ K → slots + n ≤ N → zS D M H locs → lv_has ls 5 [(1, .int x1), (2, .int x2), (3, .int x3), (4, .int x4)] → wp_X10_pattern_L92 D post xp o k n x1 x2 x3 x4 M → W p l e (rm_X10_pattern K N) s m args below meth c H locs cells slots (vx_MQ below (zQ D zR post) (zX D xp) args s K N (zA D)) (F0 m 92 ls []) := by
  have hC := hG.1
  have hx := hC.x
  have hb := hC.b
  have hown := hC.o
  have hts := hC.ts
  have hlt := hG.2.2.2.2.2
  intro H locs cells slots ls k n x1 x2 x3 x4 M hk hn hZ hl hw
  obtain ⟨hk1, hn1, hw⟩ := hw
  refine z_new (fs := [.int 0, .int 0, .int 0, .int 0]) hC hZ zc17 q773 q774 q98 (zdefs (N := 4) (ty := tyX19) (fs := [.int 0, .int 0, .int 0, .int 0]) (by decide)) (show cells + 1 ≤ K by omega) (show slots + 4 ≤ N by omega) dX10_pattern_92 (fun b5 H hq0 hq1 hZ => ?_)
  replace hw := hw b5 hq0 hq1
  generalize zu M _ _ = M at hw hZ
  have hk : cells + 1 + (k - 1) ≤ K := by omega
  have hn : slots + 4 + (n - 4) ≤ N := by omega
  generalize cells + 1 = cells at hk ⊢
  generalize slots + 4 = slots at hn ⊢
  clear hk1 hn1
  refine lv_dup hx hb dX10_pattern_95 rfl ?_
  refine lv_iload_n hx hb dX10_pattern_96 rfl (lv_at hl 0 rfl) ?_
  refine lv_iload_n hx hb dX10_pattern_97 rfl (lv_at hl 1 rfl) ?_
  refine lv_iload_n hx hb dX10_pattern_98 rfl (lv_at hl 2 rfl) ?_
  refine lv_iload hx hb dX10_pattern_99 (lv_at hl 3 rfl) ?_
  refine z_callU hZ (vx_runI (As := [.int x1, .int x2, .int x3, .int x4]) (rest := [.ref b5]) hC.fix (w_X19_init hlt hw) (cwI 4 hts (lw_meth q777) rfl rfl rfl (hts _ q98) (hts _ q775) (hts _ q776) rfl dd_X19_init ⟨Nat.le_of_ble_eq_true rfl, Nat.le_of_ble_eq_true rfl⟩) (z_preS hC hZ) rfl rfl hl.1 rfl (lv_room (Nat.le_trans (zrm1 rfl zrm0) (Nat.le_of_ble_eq_true rfl))) dX10_pattern_101 ⟨(show cells + 0 ≤ K by omega), (show slots + 0 ≤ N by omega)⟩) (fun r6 M H locs hw1 hZ => ?_) (fun q M H locs ci fs E T9 N9 hw hZ hc1 hM1 hb1 => False.elim hw)
  replace hw := hw1
  clear hw1
  refine W.cs (cells' := cells) (slots' := slots) rfl rfl ?_
  refine lv_goto (tgt := 115) hx hb dX10_pattern_104 (by decide) ?_
  exact wk_X10_pattern_L115 hG _ _ _ _ hk hn hZ (lv_sub hl [] rfl) hw
def wp_X10_pattern_L75 (D : zD) (post : Option Nat → zM → Prop) (xp : Nat → zM → Prop) (o : Nat) (k : Nat) (n : Nat) (x1 : Int32) (x2 : Int32) (x3 : Int32) (x4 : Int32) (M : zM) : Prop :=
    ((zis M o [9] ∧ (∃ k10 n11, k10 ≤ k ∧ n11 ≤ n ∧ wp_X10_wants D (fun _ M => ((¬ x1 = 0 → wp_X10_pattern_L92 D post xp o (k - k10) (n - n11) x1 x2 x3 x4 M) ∧ (x1 = 0 → (((x3 + x4) ≤ 0 → (znew D M 17 4 [.int 0, .int 0, .int 0, .int 0] (k - k10) (n - n11) fun b12 M => (wp_X19_init_2 D (fun _ M => wp_X10_pattern_L115 D post xp o ((k - k10) - 1) ((n - n11) - 4) (some b12) M) b12 x2 M))) ∧ (¬ (x3 + x4) ≤ 0 → wp_X10_pattern_L92 D post xp o (k - k10) (n - n11) x1 x2 x3 x4 M))))) xp k10 n11 o (125 : Int32) M)))
set_option maxHeartbeats 4000000 in
set_option maxRecDepth 100000 in
theorem wk_X10_pattern_L75 {p : Program} {l : Launch} {e : Env} {s : State} {m : MethodId} {args : Array Value} {below : List Frame} {meth : Method} {c : Code} {D : zD} {post : Option Nat → zM → Prop} {xp : Nat → zM → Prop} {K N : Nat} {o : Nat} (hG : zGx p l s m args meth c cX10_pattern 5 "PluralBranches$Reader" D (some (.object "PluralBranches$Pattern")) "pattern" []) : ∀ {H : Heap} {locs : List Loc} {cells slots : Nat} {ls : Array Slot} (k : Nat) (n : Nat) (x1 : Int32) (x2 : Int32) (x3 : Int32) (x4 : Int32) (M : zM), cells + k ≤ K → slots + n ≤ N → zS D M H locs → lv_has ls 5 [(0, .ref o), (1, .int x1), (2, .int x2), (3, .int x3), (4, .int x4)] → wp_X10_pattern_L75 D post xp o k n x1 x2 x3 x4 M → W p l e (rm_X10_pattern K N) s m args below meth c H locs cells slots (vx_MQ below (zQ D zR post) (zX D xp) args s K N (zA D)) (F0 m 75 ls []) := by
  have hC := hG.1
  have hx := hC.x
  have hb := hC.b
  have hown := hC.o
  have hts := hC.ts
  have hlt := hG.2.2.2.2.2
  intro H locs cells slots ls k n x1 x2 x3 x4 M hk hn hZ hl hw
  refine lv_aload_n hx hb dX10_pattern_75 rfl (lv_at hl 0 rfl) ?_
  refine lv_bipush (v := 125) hx hb dX10_pattern_76 (by decide) ?_
  obtain ⟨⟨ci0, fs0, hci0, hM0⟩, hw⟩ := hw
  obtain ⟨k19, n20, hk1, hn1, hw⟩ := hw
  obtain rfl : ci0 = 9 := List.mem_singleton.mp hci0
  refine z_callU hZ (vx_runV (As := [.int (125 : Int32)]) (rest := []) hC.fix (w_X10_wants hlt hw) (cwV 1 hts (lw_V q747 q749 qs14 q86 q750) rfl rfl rfl ⟨rfl, dd_X10_wants⟩ ⟨Nat.le_of_ble_eq_true rfl, Nat.le_of_ble_eq_true rfl⟩) (z_preV hC hZ hM0 zc9) rfl rfl hl.1 rfl (lv_room (Nat.zero_le _)) dX10_pattern_78 ⟨(show cells + k19 ≤ K by omega), (show slots + n20 ≤ N by omega)⟩) (fun r18 M H locs hw1 hZ => ?_) (fun q M H locs ci fs E T9 N9 hw1 hZ hc1 hM1 hb1 => ?_)
  · replace hw := hw1
    clear hw1
    have hk : cells + k19 + (k - k19) ≤ K := by omega
    have hn : slots + n20 + (n - n20) ≤ N := by omega
    generalize cells + k19 = cells at hk ⊢
    generalize slots + n20 = slots at hn ⊢
    clear hk1 hn1
    refine lv_iload_n hx hb dX10_pattern_81 rfl (lv_at hl 1 rfl) ?_
    refine lv_if_ne (tgt := 92) hx hb dX10_pattern_82 (by decide) (fun c26 => ?_) (fun c26 => ?_)
    · replace hw := hw.1 c26
      exact wk_X10_pattern_L92 hG _ _ _ _ _ _ _ hk hn hZ (lv_sub hl [1, 2, 3, 4] rfl) hw
    · replace hw := hw.2 c26
      refine lv_iload_n hx hb dX10_pattern_85 rfl (lv_at hl 3 rfl) ?_
      refine lv_iload hx hb dX10_pattern_86 (lv_at hl 4 rfl) ?_
      refine lv_iadd hx hb dX10_pattern_88 ?_
      refine lv_if_le (tgt := 107) hx hb dX10_pattern_89 (by decide) (fun c25 => ?_) (fun c25 => ?_)
      · replace hw := hw.1 c25
        obtain ⟨hk1, hn1, hw⟩ := hw
        refine z_new (fs := [.int 0, .int 0, .int 0, .int 0]) hC hZ zc17 q773 q774 q98 (zdefs (N := 4) (ty := tyX19) (fs := [.int 0, .int 0, .int 0, .int 0]) (by decide)) (show cells + 1 ≤ K by omega) (show slots + 4 ≤ N by omega) dX10_pattern_107 (fun b21 H hq0 hq1 hZ => ?_)
        replace hw := hw b21 hq0 hq1
        generalize zu M _ _ = M at hw hZ
        have hk : cells + 1 + ((k - k19) - 1) ≤ K := by omega
        have hn : slots + 4 + ((n - n20) - 4) ≤ N := by omega
        generalize cells + 1 = cells at hk ⊢
        generalize slots + 4 = slots at hn ⊢
        clear hk1 hn1
        refine lv_dup hx hb dX10_pattern_110 rfl ?_
        refine lv_iload_n hx hb dX10_pattern_111 rfl (lv_at hl 2 rfl) ?_
        refine z_callU hZ (vx_runI (As := [.int x2]) (rest := [.ref b21]) hC.fix (w_X19_init_2 hlt hw) (cwI 1 hts (lw_meth q794) rfl rfl rfl (hts _ q98) (hts _ q792) (hts _ q793) rfl dd_X19_init_2 ⟨Nat.le_of_ble_eq_true rfl, Nat.le_of_ble_eq_true rfl⟩) (z_preS hC hZ) rfl rfl hl.1 rfl (lv_room (Nat.le_trans (zrm1 rfl zrm0) (Nat.le_of_ble_eq_true rfl))) dX10_pattern_112 ⟨(show cells + 0 ≤ K by omega), (show slots + 0 ≤ N by omega)⟩) (fun r22 M H locs hw1 hZ => ?_) (fun q M H locs ci fs E T9 N9 hw hZ hc1 hM1 hb1 => False.elim hw)
        replace hw := hw1
        clear hw1
        refine W.cs (cells' := cells) (slots' := slots) rfl rfl ?_
        exact wk_X10_pattern_L115 hG _ _ _ _ hk hn hZ (lv_sub hl [] rfl) hw
      · replace hw := hw.2 c25
        exact wk_X10_pattern_L92 hG _ _ _ _ _ _ _ hk hn hZ (lv_sub hl [1, 2, 3, 4] rfl) hw
  · replace hw := hw1
    clear hw1
    exact z_out hG hZ hM1 hb1 hc1 za0 (by omega) (by omega) hw
def wp_X10_pattern_L72 (D : zD) (post : Option Nat → zM → Prop) (xp : Nat → zM → Prop) (o : Nat) (k : Nat) (n : Nat) (x1 : Int32) (x2 : Int32) (x3 : Int32) (x4 : Int32) (y0 : Option Nat) (y1 : Int32) (M : zM) : Prop :=
    ((zd y0 fun b27 => (zis M b27 [9] ∧ (∃ k29 n30, k29 ≤ k ∧ n30 ≤ n ∧ wp_X10_must D (fun _ M => wp_X10_pattern_L75 D post xp o (k - k29) (n - n30) x1 x2 x3 x4 M) xp k29 n30 b27 y1 M))))
set_option maxHeartbeats 4000000 in
set_option maxRecDepth 100000 in
theorem wk_X10_pattern_L72 {p : Program} {l : Launch} {e : Env} {s : State} {m : MethodId} {args : Array Value} {below : List Frame} {meth : Method} {c : Code} {D : zD} {post : Option Nat → zM → Prop} {xp : Nat → zM → Prop} {K N : Nat} {o : Nat} (hG : zGx p l s m args meth c cX10_pattern 5 "PluralBranches$Reader" D (some (.object "PluralBranches$Pattern")) "pattern" []) : ∀ {H : Heap} {locs : List Loc} {cells slots : Nat} {ls : Array Slot} (k : Nat) (n : Nat) (x1 : Int32) (x2 : Int32) (x3 : Int32) (x4 : Int32) (y0 : Option Nat) (y1 : Int32) (M : zM), cells + k ≤ K → slots + n ≤ N → zS D M H locs → lv_has ls 5 [(0, .ref o), (1, .int x1), (2, .int x2), (3, .int x3), (4, .int x4)] → wp_X10_pattern_L72 D post xp o k n x1 x2 x3 x4 y0 y1 M → W p l e (rm_X10_pattern K N) s m args below meth c H locs cells slots (vx_MQ below (zQ D zR post) (zX D xp) args s K N (zA D)) (F0 m 72 ls [.int y1, va_rf y0]) := by
  have hC := hG.1
  have hx := hC.x
  have hb := hC.b
  have hown := hC.o
  have hts := hC.ts
  have hlt := hG.2.2.2.2.2
  intro H locs cells slots ls k n x1 x2 x3 x4 y0 y1 M hk hn hZ hl hw
  obtain ⟨b31, hr0, hw⟩ := hw
  subst hr0
  obtain ⟨⟨ci0, fs0, hci0, hM0⟩, hw⟩ := hw
  obtain ⟨k33, n34, hk1, hn1, hw⟩ := hw
  obtain rfl : ci0 = 9 := List.mem_singleton.mp hci0
  refine z_callU hZ (vx_runV (As := [.int y1]) (rest := []) hC.fix (w_X10_must hlt hw) (cwV 1 hts (lw_V q640 q642 qs9 q86 q643) rfl rfl rfl ⟨rfl, dd_X10_must⟩ ⟨Nat.le_of_ble_eq_true rfl, Nat.le_of_ble_eq_true rfl⟩) (z_preV hC hZ hM0 zc9) rfl rfl hl.1 rfl (lv_room (Nat.zero_le _)) dX10_pattern_72 ⟨(show cells + k33 ≤ K by omega), (show slots + n34 ≤ N by omega)⟩) (fun r32 M H locs hw1 hZ => ?_) (fun q M H locs ci fs E T9 N9 hw1 hZ hc1 hM1 hb1 => ?_)
  · replace hw := hw1
    clear hw1
    have hk : cells + k33 + (k - k33) ≤ K := by omega
    have hn : slots + n34 + (n - n34) ≤ N := by omega
    generalize cells + k33 = cells at hk ⊢
    generalize slots + n34 = slots at hn ⊢
    clear hk1 hn1
    exact wk_X10_pattern_L75 hG _ _ _ _ _ _ _ hk hn hZ (lv_sub hl [0, 1, 2, 3, 4] rfl) hw
  · replace hw := hw1
    clear hw1
    exact z_out hG hZ hM1 hb1 hc1 za0 (by omega) (by omega) hw
def wp_X10_pattern_L25 (D : zD) (post : Option Nat → zM → Prop) (xp : Nat → zM → Prop) (o : Nat) (k : Nat) (n : Nat) (x1 : Int32) (x2 : Int32) (y0 : Option Nat) (y1 : Int32) (M : zM) : Prop :=
    ((zd y0 fun b35 => (zis M b35 [9] ∧ (∃ k37 n38, k37 ≤ k ∧ n38 ≤ n ∧ wp_X10_must D (fun _ M => ((zis M o [9] ∧ wp_X10_takes D (fun r39 M => ((r39 = 0 → wp_X10_pattern_L75 D post xp o (k - k37) (n - n38) x1 x2 (0 : Int32) (0 : Int32) M) ∧ (¬ r39 = 0 → ((zis M o [9] ∧ wp_X10_some D (fun r42 M => ((zis M o [9] ∧ wp_X10_some D (fun r45 M => (((r42 + r45) ≤ 0 → wp_X10_pattern_L72 D post xp o (k - k37) (n - n38) x1 x2 r42 r45 (some o) (0 : Int32) M) ∧ (¬ (r42 + r45) ≤ 0 → wp_X10_pattern_L72 D post xp o (k - k37) (n - n38) x1 x2 r42 r45 (some o) (1 : Int32) M))) o (35 : Int32) (3 : Int32) M))) o (48 : Int32) (3 : Int32) M))))) o (46 : Int32) M))) xp k37 n38 b35 y1 M))))
set_option maxHeartbeats 4000000 in
set_option maxRecDepth 100000 in
theorem wk_X10_pattern_L25 {p : Program} {l : Launch} {e : Env} {s : State} {m : MethodId} {args : Array Value} {below : List Frame} {meth : Method} {c : Code} {D : zD} {post : Option Nat → zM → Prop} {xp : Nat → zM → Prop} {K N : Nat} {o : Nat} (hG : zGx p l s m args meth c cX10_pattern 5 "PluralBranches$Reader" D (some (.object "PluralBranches$Pattern")) "pattern" []) : ∀ {H : Heap} {locs : List Loc} {cells slots : Nat} {ls : Array Slot} (k : Nat) (n : Nat) (x1 : Int32) (x2 : Int32) (y0 : Option Nat) (y1 : Int32) (M : zM), cells + k ≤ K → slots + n ≤ N → zS D M H locs → lv_has ls 5 [(0, .ref o), (1, .int x1), (2, .int x2)] → wp_X10_pattern_L25 D post xp o k n x1 x2 y0 y1 M → W p l e (rm_X10_pattern K N) s m args below meth c H locs cells slots (vx_MQ below (zQ D zR post) (zX D xp) args s K N (zA D)) (F0 m 25 ls [.int y1, va_rf y0]) := by
  have hC := hG.1
  have hx := hC.x
  have hb := hC.b
  have hown := hC.o
  have hts := hC.ts
  have hlt := hG.2.2.2.2.2
  intro H locs cells slots ls k n x1 x2 y0 y1 M hk hn hZ hl hw
  obtain ⟨b50, hr0, hw⟩ := hw
  subst hr0
  obtain ⟨⟨ci0, fs0, hci0, hM0⟩, hw⟩ := hw
  obtain ⟨k52, n53, hk1, hn1, hw⟩ := hw
  obtain rfl : ci0 = 9 := List.mem_singleton.mp hci0
  refine z_callU hZ (vx_runV (As := [.int y1]) (rest := []) hC.fix (w_X10_must hlt hw) (cwV 1 hts (lw_V q640 q642 qs9 q86 q643) rfl rfl rfl ⟨rfl, dd_X10_must⟩ ⟨Nat.le_of_ble_eq_true rfl, Nat.le_of_ble_eq_true rfl⟩) (z_preV hC hZ hM0 zc9) rfl rfl hl.1 rfl (lv_room (Nat.zero_le _)) dX10_pattern_25 ⟨(show cells + k52 ≤ K by omega), (show slots + n53 ≤ N by omega)⟩) (fun r51 M H locs hw1 hZ => ?_) (fun q M H locs ci fs E T9 N9 hw1 hZ hc1 hM1 hb1 => ?_)
  · replace hw := hw1
    clear hw1
    have hk : cells + k52 + (k - k52) ≤ K := by omega
    have hn : slots + n53 + (n - n53) ≤ N := by omega
    generalize cells + k52 = cells at hk ⊢
    generalize slots + n53 = slots at hn ⊢
    clear hk1 hn1
    refine lv_iconst (v := 0) hx hb dX10_pattern_28 (by decide) ?_
    refine lv_istore_n (i := 3) (lv' := [(3, .int (0 : Int32)), (0, .ref o), (1, .int x1), (2, .int x2)]) hx hb dX10_pattern_29 rfl hl (by decide) rfl (fun ls hl1 => ?_)
    replace hl := hl1
    clear hl1
    refine lv_iconst (v := 0) hx hb dX10_pattern_30 (by decide) ?_
    refine lv_istore (i := 4) (lv' := [(4, .int (0 : Int32)), (3, .int (0 : Int32)), (0, .ref o), (1, .int x1), (2, .int x2)]) hx hb dX10_pattern_31 hl (by decide) rfl (fun ls hl1 => ?_)
    replace hl := hl1
    clear hl1
    refine lv_aload_n hx hb dX10_pattern_33 rfl (lv_at hl 2 rfl) ?_
    refine lv_bipush (v := 46) hx hb dX10_pattern_34 (by decide) ?_
    obtain ⟨⟨ci0, fs0, hci0, hM0⟩, hw⟩ := hw
    obtain rfl : ci0 = 9 := List.mem_singleton.mp hci0
    refine z_callI hZ (vx_runV (As := [.int (46 : Int32)]) (rest := []) hC.fix (w_X10_takes hlt hw) (cwV 1 hts (lw_V q751 q753 qs15 q86 q754) rfl rfl rfl ⟨rfl, dd_X10_takes⟩ ⟨Nat.le_of_ble_eq_true rfl, Nat.le_of_ble_eq_true rfl⟩) (z_preV hC hZ hM0 zc9) rfl rfl hl.1 rfl (lv_room (Nat.zero_le _)) dX10_pattern_36 ⟨(show cells + 0 ≤ K by omega), (show slots + 0 ≤ N by omega)⟩) (fun r54 M H locs hw1 hZ => ?_) (fun q M H locs ci fs E T9 N9 hw hZ hc1 hM1 hb1 => False.elim hw)
    replace hw := hw1
    clear hw1
    refine W.cs (cells' := cells) (slots' := slots) rfl rfl ?_
    refine lv_if_eq (tgt := 75) hx hb dX10_pattern_39 (by decide) (fun c64 => ?_) (fun c64 => ?_)
    · replace hw := hw.1 c64
      exact wk_X10_pattern_L75 hG _ _ _ _ _ _ _ hk hn hZ (lv_sub hl [2, 3, 4, 1, 0] rfl) hw
    · replace hw := hw.2 c64
      refine lv_aload_n hx hb dX10_pattern_42 rfl (lv_at hl 2 rfl) ?_
      refine lv_bipush (v := 48) hx hb dX10_pattern_43 (by decide) ?_
      refine lv_iconst (v := 3) hx hb dX10_pattern_45 (by decide) ?_
      obtain ⟨⟨ci0, fs0, hci0, hM0⟩, hw⟩ := hw
      obtain rfl : ci0 = 9 := List.mem_singleton.mp hci0
      refine z_callI hZ (vx_runV (As := [.int (48 : Int32), .int (3 : Int32)]) (rest := []) hC.fix (w_X10_some hlt hw) (cwV 2 hts (lw_V q769 q771 qs17 q86 q772) rfl rfl rfl ⟨rfl, dd_X10_some⟩ ⟨Nat.le_of_ble_eq_true rfl, Nat.le_of_ble_eq_true rfl⟩) (z_preV hC hZ hM0 zc9) rfl rfl hl.1 rfl (lv_room (Nat.zero_le _)) dX10_pattern_46 ⟨(show cells + 0 ≤ K by omega), (show slots + 0 ≤ N by omega)⟩) (fun r57 M H locs hw1 hZ => ?_) (fun q M H locs ci fs E T9 N9 hw hZ hc1 hM1 hb1 => False.elim hw)
      replace hw := hw1
      clear hw1
      refine W.cs (cells' := cells) (slots' := slots) rfl rfl ?_
      refine lv_istore_n (i := 3) (lv' := [(3, .int r57), (4, .int (0 : Int32)), (0, .ref o), (1, .int x1), (2, .int x2)]) hx hb dX10_pattern_49 rfl hl (by decide) rfl (fun ls hl1 => ?_)
      replace hl := hl1
      clear hl1
      refine lv_aload_n hx hb dX10_pattern_50 rfl (lv_at hl 2 rfl) ?_
      refine lv_bipush (v := 35) hx hb dX10_pattern_51 (by decide) ?_
      refine lv_iconst (v := 3) hx hb dX10_pattern_53 (by decide) ?_
      obtain ⟨⟨ci0, fs0, hci0, hM0⟩, hw⟩ := hw
      obtain rfl : ci0 = 9 := List.mem_singleton.mp hci0
      refine z_callI hZ (vx_runV (As := [.int (35 : Int32), .int (3 : Int32)]) (rest := []) hC.fix (w_X10_some hlt hw) (cwV 2 hts (lw_V q769 q771 qs17 q86 q772) rfl rfl rfl ⟨rfl, dd_X10_some⟩ ⟨Nat.le_of_ble_eq_true rfl, Nat.le_of_ble_eq_true rfl⟩) (z_preV hC hZ hM0 zc9) rfl rfl hl.1 rfl (lv_room (Nat.zero_le _)) dX10_pattern_54 ⟨(show cells + 0 ≤ K by omega), (show slots + 0 ≤ N by omega)⟩) (fun r60 M H locs hw1 hZ => ?_) (fun q M H locs ci fs E T9 N9 hw hZ hc1 hM1 hb1 => False.elim hw)
      replace hw := hw1
      clear hw1
      refine W.cs (cells' := cells) (slots' := slots) rfl rfl ?_
      refine lv_istore (i := 4) (lv' := [(4, .int r60), (3, .int r57), (0, .ref o), (1, .int x1), (2, .int x2)]) hx hb dX10_pattern_57 hl (by decide) rfl (fun ls hl1 => ?_)
      replace hl := hl1
      clear hl1
      refine lv_aload_n hx hb dX10_pattern_59 rfl (lv_at hl 2 rfl) ?_
      refine lv_iload_n hx hb dX10_pattern_60 rfl (lv_at hl 1 rfl) ?_
      refine lv_iload hx hb dX10_pattern_61 (lv_at hl 0 rfl) ?_
      refine lv_iadd hx hb dX10_pattern_63 ?_
      refine lv_if_le (tgt := 71) hx hb dX10_pattern_64 (by decide) (fun c63 => ?_) (fun c63 => ?_)
      · replace hw := hw.1 c63
        refine lv_iconst (v := 0) hx hb dX10_pattern_71 (by decide) ?_
        exact wk_X10_pattern_L72 hG _ _ _ _ _ _ _ _ _ hk hn hZ (lv_sub hl [2, 3, 4, 1, 0] rfl) hw
      · replace hw := hw.2 c63
        refine lv_iconst (v := 1) hx hb dX10_pattern_67 (by decide) ?_
        refine lv_goto (tgt := 72) hx hb dX10_pattern_68 (by decide) ?_
        exact wk_X10_pattern_L72 hG _ _ _ _ _ _ _ _ _ hk hn hZ (lv_sub hl [2, 3, 4, 1, 0] rfl) hw
  · replace hw := hw1
    clear hw1
    exact z_out hG hZ hM1 hb1 hc1 za0 (by omega) (by omega) hw
def wp_X10_pattern (D : zD) (post : Option Nat → zM → Prop) (xp : Nat → zM → Prop) (k : Nat) (n : Nat) (o : Nat) (M : zM) : Prop :=
    ((zis M o [9] ∧ wp_X10_takes D (fun r65 M => ((zis M o [9] ∧ wp_X10_some D (fun r68 M => ((r68 ≤ 0 → wp_X10_pattern_L25 D post xp o k n r65 r68 (some o) (0 : Int32) M) ∧ (¬ r68 ≤ 0 → wp_X10_pattern_L25 D post xp o k n r65 r68 (some o) (1 : Int32) M))) o (48 : Int32) (4 : Int32) M))) o (44 : Int32) M))
set_option maxHeartbeats 4000000 in
set_option maxRecDepth 100000 in
theorem w_X10_pattern {l : Launch} {D : zD} {post : Option Nat → zM → Prop} {xp : Nat → zM → Prop} (hlt : l.stackTraces = false) {k : Nat} {n : Nat} {o : Nat} {M : zM} (hw : wp_X10_pattern D post xp k n o M) : zMet l D yX10_pattern (ws_ yX10_pattern cX10_pattern 5 (some (.object "PluralBranches$Pattern"))) (rm_X10_pattern k n) k n [.ref o] M zR post xp := by
  unfold wp_X10_pattern at hw
  have hlv : lv_args 0 [.ref o] = [(0, .ref o)] := (zargs1 rfl rfl)
  refine z_ofW hlt (by decide) (Nat.le_trans (zsl1 rfl (Nat.le_refl 0 : (lg_sl []).length ≤ 0)) (Nat.le_of_ble_eq_true rfl)) hlv ?_
  intro p e s m args below meth c ls hG hZ hl
  have hC := hG.1
  have hx := hC.x
  have hb := hC.b
  have hown := hC.o
  have hts := hC.ts
  have hlt := hG.2.2.2.2.2
  obtain ⟨cells, hce⟩ : ∃ z : Nat, z = 0 := ⟨0, rfl⟩
  obtain ⟨slots, hsl⟩ : ∃ z : Nat, z = 0 := ⟨0, rfl⟩
  refine W.cs (cells' := cells) (slots' := slots) hce.symm hsl.symm ?_
  have hk : cells + k ≤ k := by omega
  have hn : slots + n ≤ n := by omega
  clear hce hsl
  refine lv_aload_n hx hb dX10_pattern_0 rfl (lv_at hl 0 rfl) ?_
  refine lv_bipush (v := 44) hx hb dX10_pattern_1 (by decide) ?_
  obtain ⟨⟨ci0, fs0, hci0, hM0⟩, hw⟩ := hw
  obtain rfl : ci0 = 9 := List.mem_singleton.mp hci0
  refine z_callI hZ (vx_runV (As := [.int (44 : Int32)]) (rest := []) hC.fix (w_X10_takes hlt hw) (cwV 1 hts (lw_V q751 q753 qs15 q86 q754) rfl rfl rfl ⟨rfl, dd_X10_takes⟩ ⟨Nat.le_of_ble_eq_true rfl, Nat.le_of_ble_eq_true rfl⟩) (z_preV hC hZ hM0 zc9) rfl rfl hl.1 rfl (lv_room (Nat.zero_le _)) dX10_pattern_3 ⟨(show cells + 0 ≤ k by omega), (show slots + 0 ≤ n by omega)⟩) (fun r72 M H locs hw1 hZ => ?_) (fun q M H locs ci fs E T9 N9 hw hZ hc1 hM1 hb1 => False.elim hw)
  replace hw := hw1
  clear hw1
  refine W.cs (cells' := cells) (slots' := slots) rfl rfl ?_
  refine lv_istore_n (i := 1) (lv' := [(1, .int r72), (0, .ref o)]) hx hb dX10_pattern_6 rfl hl (by decide) rfl (fun ls hl1 => ?_)
  replace hl := hl1
  clear hl1
  refine lv_aload_n hx hb dX10_pattern_7 rfl (lv_at hl 1 rfl) ?_
  refine lv_bipush (v := 48) hx hb dX10_pattern_8 (by decide) ?_
  refine lv_iconst (v := 4) hx hb dX10_pattern_10 (by decide) ?_
  obtain ⟨⟨ci0, fs0, hci0, hM0⟩, hw⟩ := hw
  obtain rfl : ci0 = 9 := List.mem_singleton.mp hci0
  refine z_callI hZ (vx_runV (As := [.int (48 : Int32), .int (4 : Int32)]) (rest := []) hC.fix (w_X10_some hlt hw) (cwV 2 hts (lw_V q769 q771 qs17 q86 q772) rfl rfl rfl ⟨rfl, dd_X10_some⟩ ⟨Nat.le_of_ble_eq_true rfl, Nat.le_of_ble_eq_true rfl⟩) (z_preV hC hZ hM0 zc9) rfl rfl hl.1 rfl (lv_room (Nat.zero_le _)) dX10_pattern_11 ⟨(show cells + 0 ≤ k by omega), (show slots + 0 ≤ n by omega)⟩) (fun r75 M H locs hw1 hZ => ?_) (fun q M H locs ci fs E T9 N9 hw hZ hc1 hM1 hb1 => False.elim hw)
  replace hw := hw1
  clear hw1
  refine W.cs (cells' := cells) (slots' := slots) rfl rfl ?_
  refine lv_istore_n (i := 2) (lv' := [(2, .int r75), (1, .int r72), (0, .ref o)]) hx hb dX10_pattern_14 rfl hl (by decide) rfl (fun ls hl1 => ?_)
  replace hl := hl1
  clear hl1
  refine lv_aload_n hx hb dX10_pattern_15 rfl (lv_at hl 2 rfl) ?_
  refine lv_iload_n hx hb dX10_pattern_16 rfl (lv_at hl 0 rfl) ?_
  refine lv_if_le (tgt := 24) hx hb dX10_pattern_17 (by decide) (fun c78 => ?_) (fun c78 => ?_)
  · replace hw := hw.1 c78
    refine lv_iconst (v := 0) hx hb dX10_pattern_24 (by decide) ?_
    exact wk_X10_pattern_L25 hG _ _ _ _ _ _ _ hk hn hZ (lv_sub hl [2, 1, 0] rfl) hw
  · replace hw := hw.2 c78
    refine lv_iconst (v := 1) hx hb dX10_pattern_20 (by decide) ?_
    refine lv_goto (tgt := 25) hx hb dX10_pattern_21 (by decide) ?_
    exact wk_X10_pattern_L25 hG _ _ _ _ _ _ _ hk hn hZ (lv_sub hl [2, 1, 0] rfl) hw
abbrev rm_X18_init : Room := { frames := 3, cells := 0, slots := 0, locals := 105 }
def wp_X18_init (D : zD) (post : Unit → zM → Prop) (o : Nat) (a0 : Int32) (a1 : Option Nat) (M : zM) : Prop :=
    (wp_X16_init D (fun _ M => (zp D M o 16 1 (va_rf a1) fun M => post () M)) o a0 M)
set_option maxHeartbeats 4000000 in
set_option maxRecDepth 100000 in
theorem w_X18_init {l : Launch} {D : zD} {post : Unit → zM → Prop} (hlt : l.stackTraces = false) {o : Nat} {a0 : Int32} {a1 : Option Nat} {M : zM} (hw : wp_X18_init D post o a0 a1 M) : zMet l D yX18_init (ws_ yX18_init cX18_init 3 (none)) rm_X18_init 0 0 [.ref o, .int a0, va_rf a1] M zU post (fun _ _ => False) := by
  unfold wp_X18_init at hw
  have hlv : lv_args 0 [.ref o, .int a0, va_rf a1] = [(0, .ref o), (1, .int a0), (2, va_rf a1)] := (zargs1 rfl (zargs1 rfl (zargs1 (zcat _) rfl)))
  refine z_ofW hlt (by decide) (Nat.le_trans (zsl1 rfl (zsl1 rfl (zsl1 (zcat _) (Nat.le_refl 0 : (lg_sl []).length ≤ 0)))) (Nat.le_of_ble_eq_true rfl)) hlv ?_
  intro p e s m args below meth c ls hG hZ hl
  have hC := hG.1
  have hx := hC.x
  have hb := hC.b
  have hown := hC.o
  have hts := hC.ts
  have hlt := hG.2.2.2.2.2
  obtain ⟨cells, hce⟩ : ∃ z : Nat, z = 0 := ⟨0, rfl⟩
  obtain ⟨slots, hsl⟩ : ∃ z : Nat, z = 0 := ⟨0, rfl⟩
  refine W.cs (cells' := cells) (slots' := slots) hce.symm hsl.symm ?_
  have hk : cells ≤ 0 := Nat.le_of_eq hce
  have hn : slots ≤ 0 := Nat.le_of_eq hsl
  clear hce hsl
  refine lv_aload_n hx hb dX18_init_0 rfl (lv_at hl 0 rfl) ?_
  refine lv_iload_n hx hb dX18_init_1 rfl (lv_at hl 1 rfl) ?_
  refine z_callU hZ (vx_runI (As := [.int a0]) (rest := []) hC.fix (w_X16_init hlt hw) (cwI 1 hts (lw_meth q731) rfl rfl rfl (hts _ q95) (hts _ q799) (hts _ q730) rfl dd_X16_init ⟨Nat.le_of_ble_eq_true rfl, Nat.le_of_ble_eq_true rfl⟩) (z_preS hC hZ) rfl rfl hl.1 rfl (lv_room (Nat.zero_le _)) dX18_init_2 ⟨hk, hn⟩) (fun r5 M H locs hw1 hZ => ?_) (fun q M H locs ci fs E T9 N9 hw hZ hc1 hM1 hb1 => False.elim hw)
  replace hw := hw1
  clear hw1
  refine W.cs (cells' := cells) (slots' := slots) rfl rfl ?_
  refine lv_aload_n hx hb dX18_init_5 rfl (lv_at hl 0 rfl) ?_
  refine z_aload_n hC dX18_init_6 rfl (lv_at hl 2 rfl) ?_
  obtain ⟨fs0, hM0, hb0, hk0, hw⟩ := hw
  refine z_putF hC hZ hM0 hb0 zc16 1 (by decide) q800 (fun _ h9 => h9) (by decide) hG.2.2.2.1 rfl zrf_nar zrf_fit hk0 dX18_init_7 (fun H locs hZ => ?_)
  generalize zu M _ _ = M at hw hZ
  exact z_vret hG hZ hk hn hw dX18_init_10
abbrev rm_X20_init (K N : Nat) : Room := { frames := 4, cells := K, slots := N, locals := 124 }
def wp_X20_init (D : zD) (post : Unit → zM → Prop) (k : Nat) (n : Nat) (o : Nat) (a0 : Int32) (a1 : Int32) (M : zM) : Prop :=
    (wp_X16_init D (fun _ M => (znew D M 26 3 [.int 0, .null, .int 0] k n fun b4 M => (wp_J3_init D (fun _ M => (zpm D M o [(18, 0), (19, 0)] (.ref b4) fun M => (zpm D M o [(18, 1), (19, 1)] (.int a1) fun M => post () M))) b4 M))) o a0 M)
set_option maxHeartbeats 4000000 in
set_option maxRecDepth 100000 in
theorem w_X20_init {l : Launch} {D : zD} {post : Unit → zM → Prop} (hlt : l.stackTraces = false) {k : Nat} {n : Nat} {o : Nat} {a0 : Int32} {a1 : Int32} {M : zM} (hw : wp_X20_init D post k n o a0 a1 M) : zMet l D yX20_init (ws_ yX20_init cX20_init 3 (none)) (rm_X20_init k n) k n [.ref o, .int a0, .int a1] M zU post (fun _ _ => False) := by
  unfold wp_X20_init at hw
  have hlv : lv_args 0 [.ref o, .int a0, .int a1] = [(0, .ref o), (1, .int a0), (2, .int a1)] := (zargs1 rfl (zargs1 rfl (zargs1 rfl rfl)))
  refine z_ofW hlt (by decide) (Nat.le_trans (zsl1 rfl (zsl1 rfl (zsl1 rfl (Nat.le_refl 0 : (lg_sl []).length ≤ 0)))) (Nat.le_of_ble_eq_true rfl)) hlv ?_
  intro p e s m args below meth c ls hG hZ hl
  have hC := hG.1
  have hx := hC.x
  have hb := hC.b
  have hown := hC.o
  have hts := hC.ts
  have hlt := hG.2.2.2.2.2
  obtain ⟨cells, hce⟩ : ∃ z : Nat, z = 0 := ⟨0, rfl⟩
  obtain ⟨slots, hsl⟩ : ∃ z : Nat, z = 0 := ⟨0, rfl⟩
  refine W.cs (cells' := cells) (slots' := slots) hce.symm hsl.symm ?_
  have hk : cells + k ≤ k := by omega
  have hn : slots + n ≤ n := by omega
  clear hce hsl
  refine lv_aload_n hx hb dX20_init_0 rfl (lv_at hl 0 rfl) ?_
  refine lv_iload_n hx hb dX20_init_1 rfl (lv_at hl 1 rfl) ?_
  refine z_callU hZ (vx_runI (As := [.int a0]) (rest := []) hC.fix (w_X16_init hlt hw) (cwI 1 hts (lw_meth q731) rfl rfl rfl (hts _ q95) (hts _ q818) (hts _ q730) rfl dd_X16_init ⟨Nat.le_of_ble_eq_true rfl, Nat.le_of_ble_eq_true rfl⟩) (z_preS hC hZ) rfl rfl hl.1 rfl (lv_room (Nat.zero_le _)) dX20_init_2 ⟨(show cells + 0 ≤ k by omega), (show slots + 0 ≤ n by omega)⟩) (fun r10 M H locs hw1 hZ => ?_) (fun q M H locs ci fs E T9 N9 hw hZ hc1 hM1 hb1 => False.elim hw)
  replace hw := hw1
  clear hw1
  refine W.cs (cells' := cells) (slots' := slots) rfl rfl ?_
  refine lv_aload_n hx hb dX20_init_5 rfl (lv_at hl 0 rfl) ?_
  obtain ⟨hk1, hn1, hw⟩ := hw
  refine z_new (fs := [.int 0, .null, .int 0]) hC hZ zc26 q819 q191 q74 (zdefs (N := 3) (ty := tyJ3) (fs := [.int 0, .null, .int 0]) (by decide)) (show cells + 1 ≤ k by omega) (show slots + 3 ≤ n by omega) dX20_init_6 (fun b13 H hq0 hq1 hZ => ?_)
  replace hw := hw b13 hq0 hq1
  generalize zu M _ _ = M at hw hZ
  have hk : cells + 1 + (k - 1) ≤ k := by omega
  have hn : slots + 3 + (n - 3) ≤ n := by omega
  generalize cells + 1 = cells at hk ⊢
  generalize slots + 3 = slots at hn ⊢
  clear hk1 hn1
  refine lv_dup hx hb dX20_init_9 rfl ?_
  refine z_callU hZ (vx_runI (As := []) (rest := [.ref b13, .ref o]) hC.fix (w_J3_init hlt hw) (cwI 0 hts (lw_meth q194) rfl rfl rfl (hts _ q74) (hts _ q820) (hts _ q193) rfl dd_J3_init ⟨Nat.le_of_ble_eq_true rfl, Nat.le_of_ble_eq_true rfl⟩) (z_preS hC hZ) rfl rfl hl.1 rfl (lv_room (Nat.le_trans (zrm1 rfl (zrm1 rfl zrm0)) (Nat.le_of_ble_eq_true rfl))) dX20_init_10 ⟨(show cells + 0 ≤ k by omega), (show slots + 0 ≤ n by omega)⟩) (fun r14 M H locs hw1 hZ => ?_) (fun q M H locs ci fs E T9 N9 hw hZ hc1 hM1 hb1 => False.elim hw)
  replace hw := hw1
  clear hw1
  refine W.cs (cells' := cells) (slots' := slots) rfl rfl ?_
  obtain ⟨q0, fs0, hL0, hM0, hb0, hk0, hw⟩ := hw
  refine z_putFm hC hZ hM0 hb0 (L := [(18, 0), (19, 0)]) (ref := "PluralBranches$Choice") (index := 14) (ty0 := (.object "java/util/ArrayList")) (zal (⟨_, _, _, _, zc18, by decide, q821, (fun _ h9 => h9), rfl, by decide, rfl⟩) (zal (⟨_, _, _, _, zc19, by decide, q821, (fun _ h9 => h9), rfl, by decide, rfl⟩) (za0))) hL0 hG.2.2.2.1 rfl rfl hk0 dX20_init_13 (fun H locs hZ => ?_)
  generalize zu M _ _ = M at hw hZ
  refine lv_aload_n hx hb dX20_init_16 rfl (lv_at hl 0 rfl) ?_
  refine lv_iload_n hx hb dX20_init_17 rfl (lv_at hl 2 rfl) ?_
  obtain ⟨q0, fs0, hL0, hM0, hb0, hk0, hw⟩ := hw
  refine z_putFm hC hZ hM0 hb0 (L := [(18, 1), (19, 1)]) (ref := "PluralBranches$Choice") (index := 20) (ty0 := .int) (zal (⟨_, _, _, _, zc18, by decide, q828, (fun _ h9 => h9), rfl, by decide, rfl⟩) (zal (⟨_, _, _, _, zc19, by decide, q828, (fun _ h9 => h9), rfl, by decide, rfl⟩) (za0))) hL0 hG.2.2.2.1 rfl rfl hk0 dX20_init_18 (fun H locs hZ => ?_)
  generalize zu M _ _ = M at hw hZ
  exact z_vret hG hZ (by omega) (by omega) hw dX20_init_21
abbrev rm_X21_init (K N : Nat) : Room := { frames := 5, cells := K, slots := N, locals := 146 }
def wp_X21_init (D : zD) (post : Unit → zM → Prop) (k : Nat) (n : Nat) (o : Nat) (a0 : Int32) (a1 : Int32) (M : zM) : Prop :=
    ((∃ k2 n3, k2 ≤ k ∧ n3 ≤ n ∧ wp_X20_init D (fun _ M => post () M) k2 n3 o a0 a1 M))
set_option maxHeartbeats 4000000 in
set_option maxRecDepth 100000 in
theorem w_X21_init {l : Launch} {D : zD} {post : Unit → zM → Prop} (hlt : l.stackTraces = false) {k : Nat} {n : Nat} {o : Nat} {a0 : Int32} {a1 : Int32} {M : zM} (hw : wp_X21_init D post k n o a0 a1 M) : zMet l D yX21_init (ws_ yX21_init cX21_init 3 (none)) (rm_X21_init k n) k n [.ref o, .int a0, .int a1] M zU post (fun _ _ => False) := by
  unfold wp_X21_init at hw
  have hlv : lv_args 0 [.ref o, .int a0, .int a1] = [(0, .ref o), (1, .int a0), (2, .int a1)] := (zargs1 rfl (zargs1 rfl (zargs1 rfl rfl)))
  refine z_ofW hlt (by decide) (Nat.le_trans (zsl1 rfl (zsl1 rfl (zsl1 rfl (Nat.le_refl 0 : (lg_sl []).length ≤ 0)))) (Nat.le_of_ble_eq_true rfl)) hlv ?_
  intro p e s m args below meth c ls hG hZ hl
  have hC := hG.1
  have hx := hC.x
  have hb := hC.b
  have hown := hC.o
  have hts := hC.ts
  have hlt := hG.2.2.2.2.2
  obtain ⟨cells, hce⟩ : ∃ z : Nat, z = 0 := ⟨0, rfl⟩
  obtain ⟨slots, hsl⟩ : ∃ z : Nat, z = 0 := ⟨0, rfl⟩
  refine W.cs (cells' := cells) (slots' := slots) hce.symm hsl.symm ?_
  have hk : cells + k ≤ k := by omega
  have hn : slots + n ≤ n := by omega
  clear hce hsl
  refine lv_aload_n hx hb dX21_init_0 rfl (lv_at hl 0 rfl) ?_
  refine lv_iload_n hx hb dX21_init_1 rfl (lv_at hl 1 rfl) ?_
  refine lv_iload_n hx hb dX21_init_2 rfl (lv_at hl 2 rfl) ?_
  obtain ⟨k5, n6, hk1, hn1, hw⟩ := hw
  refine z_callU hZ (vx_runI (As := [.int a0, .int a1]) (rest := []) hC.fix (w_X20_init hlt hw) (cwI 2 hts (lw_meth q817) rfl rfl rfl (hts _ q99) (hts _ q815) (hts _ q816) rfl dd_X20_init ⟨Nat.le_of_ble_eq_true rfl, Nat.le_of_ble_eq_true rfl⟩) (z_preS hC hZ) rfl rfl hl.1 rfl (lv_room (Nat.zero_le _)) dX21_init_3 ⟨(show cells + k5 ≤ k by omega), (show slots + n6 ≤ n by omega)⟩) (fun r4 M H locs hw1 hZ => ?_) (fun q M H locs ci fs E T9 N9 hw hZ hc1 hM1 hb1 => False.elim hw)
  replace hw := hw1
  clear hw1
  have hk : cells + k5 + (k - k5) ≤ k := by omega
  have hn : slots + n6 + (n - n6) ≤ n := by omega
  generalize cells + k5 = cells at hk ⊢
  generalize slots + n6 = slots at hn ⊢
  clear hk1 hn1
  exact z_vret hG hZ (by omega) (by omega) hw dX21_init_6
abbrev rm_X22_init (K N : Nat) : Room := { frames := 5, cells := K, slots := N, locals := 146 }
def wp_X22_init (D : zD) (post : Unit → zM → Prop) (k : Nat) (n : Nat) (o : Nat) (a0 : Int32) (a1 : Int32) (M : zM) : Prop :=
    ((∃ k2 n3, k2 ≤ k ∧ n3 ≤ n ∧ wp_X20_init D (fun _ M => post () M) k2 n3 o a0 a1 M))
set_option maxHeartbeats 4000000 in
set_option maxRecDepth 100000 in
theorem w_X22_init {l : Launch} {D : zD} {post : Unit → zM → Prop} (hlt : l.stackTraces = false) {k : Nat} {n : Nat} {o : Nat} {a0 : Int32} {a1 : Int32} {M : zM} (hw : wp_X22_init D post k n o a0 a1 M) : zMet l D yX22_init (ws_ yX22_init cX22_init 3 (none)) (rm_X22_init k n) k n [.ref o, .int a0, .int a1] M zU post (fun _ _ => False) := by
  unfold wp_X22_init at hw
  have hlv : lv_args 0 [.ref o, .int a0, .int a1] = [(0, .ref o), (1, .int a0), (2, .int a1)] := (zargs1 rfl (zargs1 rfl (zargs1 rfl rfl)))
  refine z_ofW hlt (by decide) (Nat.le_trans (zsl1 rfl (zsl1 rfl (zsl1 rfl (Nat.le_refl 0 : (lg_sl []).length ≤ 0)))) (Nat.le_of_ble_eq_true rfl)) hlv ?_
  intro p e s m args below meth c ls hG hZ hl
  have hC := hG.1
  have hx := hC.x
  have hb := hC.b
  have hown := hC.o
  have hts := hC.ts
  have hlt := hG.2.2.2.2.2
  obtain ⟨cells, hce⟩ : ∃ z : Nat, z = 0 := ⟨0, rfl⟩
  obtain ⟨slots, hsl⟩ : ∃ z : Nat, z = 0 := ⟨0, rfl⟩
  refine W.cs (cells' := cells) (slots' := slots) hce.symm hsl.symm ?_
  have hk : cells + k ≤ k := by omega
  have hn : slots + n ≤ n := by omega
  clear hce hsl
  refine lv_aload_n hx hb dX22_init_0 rfl (lv_at hl 0 rfl) ?_
  refine lv_iload_n hx hb dX22_init_1 rfl (lv_at hl 1 rfl) ?_
  refine lv_iload_n hx hb dX22_init_2 rfl (lv_at hl 2 rfl) ?_
  obtain ⟨k5, n6, hk1, hn1, hw⟩ := hw
  refine z_callU hZ (vx_runI (As := [.int a0, .int a1]) (rest := []) hC.fix (w_X20_init hlt hw) (cwI 2 hts (lw_meth q817) rfl rfl rfl (hts _ q99) (hts _ q841) (hts _ q816) rfl dd_X20_init ⟨Nat.le_of_ble_eq_true rfl, Nat.le_of_ble_eq_true rfl⟩) (z_preS hC hZ) rfl rfl hl.1 rfl (lv_room (Nat.zero_le _)) dX22_init_3 ⟨(show cells + k5 ≤ k by omega), (show slots + n6 ≤ n by omega)⟩) (fun r4 M H locs hw1 hZ => ?_) (fun q M H locs ci fs E T9 N9 hw hZ hc1 hM1 hb1 => False.elim hw)
  replace hw := hw1
  clear hw1
  have hk : cells + k5 + (k - k5) ≤ k := by omega
  have hn : slots + n6 + (n - n6) ≤ n := by omega
  generalize cells + k5 = cells at hk ⊢
  generalize slots + n6 = slots at hn ⊢
  clear hk1 hn1
  exact z_vret hG hZ (by omega) (by omega) hw dX22_init_6
abbrev rm_X10_number (K N : Nat) : Room := { frames := 7, cells := K, slots := N, locals := 198 }
def wp_X10_number_L73 (D : zD) (post : Int32 → zM → Prop) (xp : Nat → zM → Prop) (o : Nat) (k : Nat) (n : Nat) (x1 : Int32) (M : zM) : Prop :=
    post x1 M
set_option maxHeartbeats 4000000 in
set_option maxRecDepth 100000 in
theorem wk_X10_number_L73 {p : Program} {l : Launch} {e : Env} {s : State} {m : MethodId} {args : Array Value} {below : List Frame} {meth : Method} {c : Code} {D : zD} {post : Int32 → zM → Prop} {xp : Nat → zM → Prop} {K N : Nat} {o : Nat} (hG : zGx p l s m args meth c cX10_number 3 "PluralBranches$Reader" D (some .int) "number" []) : ∀ {H : Heap} {locs : List Loc} {cells slots : Nat} {ls : Array Slot} (k : Nat) (n : Nat) (x1 : Int32) (M : zM), cells + k ≤ K → slots + n ≤ N → zS D M H locs → lv_has ls 3 [(1, .int x1)] → wp_X10_number_L73 D post xp o k n x1 M → W p l e (rm_X10_number K N) s m args below meth c H locs cells slots (vx_MQ below (zQ D zI post) (zX D xp) args s K N (zA D)) (F0 m 73 ls []) := by
  have hC := hG.1
  have hx := hC.x
  have hb := hC.b
  have hown := hC.o
  have hts := hC.ts
  have hlt := hG.2.2.2.2.2
  intro H locs cells slots ls k n x1 M hk hn hZ hl hw
  refine lv_iload_n hx hb dX10_number_73 rfl (lv_at hl 0 rfl) ?_
  exact z_iret hG hZ (by omega) (by omega) hw dX10_number_74
def wp_X10_number_L22 (D : zD) (post : Int32 → zM → Prop) (xp : Nat → zM → Prop) (o : Nat) : Nat → Nat → Nat → Int32 → Int32 → zM → Prop
  | 0 => fun _ _ _ _ _ => False
  | f + 1 => fun k n x1 x2 M =>
    (((3 : Int32) ≤ x2 → wp_X10_number_L73 D post xp o k n x1 M) ∧ (¬ (3 : Int32) ≤ x2 → ((zis M o [9] ∧ wp_X10_here D (fun r1 M => (wp_X0_in D (fun r4 M => ((r4 = 0 → wp_X10_number_L73 D post xp o k n x1 M) ∧ (¬ r4 = 0 → ((zis M o [9] ∧ wp_X10_here D (fun r7 M => (zgI M o 9 1 fun g10 => (zp D M o 9 1 (.int (g10 + (1 : Int32))) fun M => wp_X10_number_L22 D post xp o f k n ((((10 : Int32) * x1) + r7) - (48 : Int32)) (x2 + 1) M))) o M))))) (r1.toInt64) (48 : Int64) (57 : Int64) M)) o M))))
set_option maxHeartbeats 4000000 in
set_option maxRecDepth 100000 in
theorem wk_X10_number_L22 {p : Program} {l : Launch} {e : Env} {s : State} {m : MethodId} {args : Array Value} {below : List Frame} {meth : Method} {c : Code} {D : zD} {post : Int32 → zM → Prop} {xp : Nat → zM → Prop} {K N : Nat} {o : Nat} (hG : zGx p l s m args meth c cX10_number 3 "PluralBranches$Reader" D (some .int) "number" []) : ∀ (f : Nat), ∀ {H : Heap} {locs : List Loc} {cells slots : Nat} {ls : Array Slot} (k : Nat) (n : Nat) (x1 : Int32) (x2 : Int32) (M : zM), cells + k ≤ K → slots + n ≤ N → zS D M H locs → lv_has ls 3 [(0, .ref o), (1, .int x1), (2, .int x2)] → wp_X10_number_L22 D post xp o f k n x1 x2 M → W p l e (rm_X10_number K N) s m args below meth c H locs cells slots (vx_MQ below (zQ D zI post) (zX D xp) args s K N (zA D)) (F0 m 22 ls []) := by
  have hC := hG.1
  have hx := hC.x
  have hb := hC.b
  have hown := hC.o
  have hts := hC.ts
  have hlt := hG.2.2.2.2.2
  intro f
  induction f with
  | zero =>
    intro H locs cells slots ls k n x1 x2 M hk hn hZ hl hw
    exact absurd hw (fun h => h)
  | succ f ih =>
    intro H locs cells slots ls k n x1 x2 M hk hn hZ hl hw
    refine lv_iload_n hx hb dX10_number_22 rfl (lv_at hl 2 rfl) ?_
    refine lv_iconst (v := 3) hx hb dX10_number_23 (by decide) ?_
    refine lv_icmp_ge (tgt := 73) hx hb dX10_number_24 (by decide) (fun c26 => ?_) (fun c26 => ?_)
    · replace hw := hw.1 c26
      exact wk_X10_number_L73 hG _ _ _ _ hk hn hZ (lv_sub hl [1] rfl) hw
    · replace hw := hw.2 c26
      refine lv_aload_n hx hb dX10_number_27 rfl (lv_at hl 0 rfl) ?_
      obtain ⟨⟨ci0, fs0, hci0, hM0⟩, hw⟩ := hw
      obtain rfl : ci0 = 9 := List.mem_singleton.mp hci0
      refine z_callI hZ (vx_runV (As := []) (rest := []) hC.fix (w_X10_here hlt hw) (cwV 0 hts (lw_V q613 q615 qs6 q86 q616) rfl rfl rfl ⟨rfl, dd_X10_here⟩ ⟨Nat.le_of_ble_eq_true rfl, Nat.le_of_ble_eq_true rfl⟩) (z_preV hC hZ hM0 zc9) rfl rfl hl.1 rfl (lv_room (Nat.zero_le _)) dX10_number_28 ⟨(show cells + 0 ≤ K by omega), (show slots + 0 ≤ N by omega)⟩) (fun r14 M H locs hw1 hZ => ?_) (fun q M H locs ci fs E T9 N9 hw hZ hc1 hM1 hb1 => False.elim hw)
      replace hw := hw1
      clear hw1
      refine W.cs (cells' := cells) (slots' := slots) rfl rfl ?_
      refine lv_i2l hx hb dX10_number_31 rfl ?_
      refine lv_ldc2 hx hb hown (hts _ q864) dX10_number_32 ?_
      refine lv_ldc2 hx hb hown (hts _ q865) dX10_number_35 ?_
      refine z_callI hZ (vx_runSN (As := [.long (r14.toInt64), .long (48 : Int64), .long (57 : Int64)]) (rest := []) hC.fix (w_X0_in hlt hw) ⟨va_cnB 3 hts (lw_meth q436) rfl rfl rfl (hC.nw q619 rfl) (hts _ q67) dd_X0_in ⟨Nat.le_of_ble_eq_true rfl, Nat.le_of_ble_eq_true rfl⟩, hts _ q435, trivial⟩ (z_preS hC hZ) rfl rfl hl.1 rfl (lv_room (Nat.zero_le _)) dX10_number_38 ⟨(show cells + 0 ≤ K by omega), (show slots + 0 ≤ N by omega)⟩) (fun r17 M H locs hw1 hZ => ?_) (fun q M H locs ci fs E T9 N9 hw hZ hc1 hM1 hb1 => False.elim hw)
      replace hw := hw1
      clear hw1
      refine W.cs (cells' := cells) (slots' := slots) rfl rfl ?_
      refine lv_if_eq (tgt := 73) hx hb dX10_number_41 (by decide) (fun c25 => ?_) (fun c25 => ?_)
      · replace hw := hw.1 c25
        exact wk_X10_number_L73 hG _ _ _ _ hk hn hZ (lv_sub hl [1] rfl) hw
      · replace hw := hw.2 c25
        refine lv_bipush (v := 10) hx hb dX10_number_44 (by decide) ?_
        refine lv_iload_n hx hb dX10_number_46 rfl (lv_at hl 1 rfl) ?_
        refine lv_imul hx hb dX10_number_47 ?_
        refine lv_aload_n hx hb dX10_number_48 rfl (lv_at hl 0 rfl) ?_
        obtain ⟨⟨ci0, fs0, hci0, hM0⟩, hw⟩ := hw
        obtain rfl : ci0 = 9 := List.mem_singleton.mp hci0
        refine z_callI hZ (vx_runV (As := []) (rest := [.int ((10 : Int32) * x1)]) hC.fix (w_X10_here hlt hw) (cwV 0 hts (lw_V q613 q615 qs6 q86 q616) rfl rfl rfl ⟨rfl, dd_X10_here⟩ ⟨Nat.le_of_ble_eq_true rfl, Nat.le_of_ble_eq_true rfl⟩) (z_preV hC hZ hM0 zc9) rfl rfl hl.1 rfl (lv_room (Nat.le_trans (zrm1 rfl zrm0) (Nat.le_of_ble_eq_true rfl))) dX10_number_49 ⟨(show cells + 0 ≤ K by omega), (show slots + 0 ≤ N by omega)⟩) (fun r20 M H locs hw1 hZ => ?_) (fun q M H locs ci fs E T9 N9 hw hZ hc1 hM1 hb1 => False.elim hw)
        replace hw := hw1
        clear hw1
        refine W.cs (cells' := cells) (slots' := slots) rfl rfl ?_
        refine lv_iadd hx hb dX10_number_52 ?_
        refine lv_bipush (v := 48) hx hb dX10_number_53 (by decide) ?_
        refine lv_isub hx hb dX10_number_55 ?_
        refine lv_istore_n (i := 1) (lv' := [(1, .int ((((10 : Int32) * x1) + r20) - (48 : Int32))), (0, .ref o), (2, .int x2)]) hx hb dX10_number_56 rfl hl (by decide) rfl (fun ls hl1 => ?_)
        replace hl := hl1
        clear hl1
        refine lv_aload_n hx hb dX10_number_57 rfl (lv_at hl 1 rfl) ?_
        refine lv_dup hx hb dX10_number_58 rfl ?_
        obtain ⟨fs0, g23, hM0, hx0, hw⟩ := hw
        refine z_get hC hZ hM0 zc9 1 (by decide) q570 (fun _ h9 => h9) hx0 dX10_number_59 ?_
        refine lv_iconst (v := 1) hx hb dX10_number_62 (by decide) ?_
        refine lv_iadd hx hb dX10_number_63 ?_
        obtain ⟨fs0, hM0, hb0, hk0, hw⟩ := hw
        refine z_put hC hZ hM0 hb0 zc9 1 (by decide) q570 (fun _ h9 => h9) (by decide) rfl rfl hk0 dX10_number_64 (fun H locs hZ => ?_)
        generalize zu M _ _ = M at hw hZ
        refine lv_iinc (v := (x2 + 1)) (lv' := [(2, .int (x2 + 1)), (1, .int ((((10 : Int32) * x1) + r20) - (48 : Int32))), (0, .ref o)]) hx hb dX10_number_67 hl (k := 2) rfl rfl (by decide) rfl (fun ls hl1 => ?_)
        replace hl := hl1
        clear hl1
        refine lv_goto (tgt := 22) hx hb dX10_number_70 (by decide) ?_
        exact ih _ _ _ _ _ hk hn hZ (lv_sub hl [2, 1, 0] rfl) hw
def wp_X10_number (D : zD) (post : Int32 → zM → Prop) (xp : Nat → zM → Prop) (k : Nat) (n : Nat) (o : Nat) (M : zM) : Prop :=
    ((zis M o [9] ∧ wp_X10_here D (fun r27 M => (wp_X0_in D (fun r30 M => ((zis M o [9] ∧ (∃ k34 n35, k34 ≤ k ∧ n35 ≤ n ∧ wp_X10_must D (fun _ M => (∃ f, wp_X10_number_L22 D post xp o f (k - k34) (n - n35) (0 : Int32) (0 : Int32) M)) xp k34 n35 o r30 M)))) (r27.toInt64) (48 : Int64) (57 : Int64) M)) o M))
set_option maxHeartbeats 4000000 in
set_option maxRecDepth 100000 in
theorem w_X10_number {l : Launch} {D : zD} {post : Int32 → zM → Prop} {xp : Nat → zM → Prop} (hlt : l.stackTraces = false) {k : Nat} {n : Nat} {o : Nat} {M : zM} (hw : wp_X10_number D post xp k n o M) : zMet l D yX10_number (ws_ yX10_number cX10_number 3 (some .int)) (rm_X10_number k n) k n [.ref o] M zI post xp := by
  unfold wp_X10_number at hw
  have hlv : lv_args 0 [.ref o] = [(0, .ref o)] := (zargs1 rfl rfl)
  refine z_ofW hlt (by decide) (Nat.le_trans (zsl1 rfl (Nat.le_refl 0 : (lg_sl []).length ≤ 0)) (Nat.le_of_ble_eq_true rfl)) hlv ?_
  intro p e s m args below meth c ls hG hZ hl
  have hC := hG.1
  have hx := hC.x
  have hb := hC.b
  have hown := hC.o
  have hts := hC.ts
  have hlt := hG.2.2.2.2.2
  obtain ⟨cells, hce⟩ : ∃ z : Nat, z = 0 := ⟨0, rfl⟩
  obtain ⟨slots, hsl⟩ : ∃ z : Nat, z = 0 := ⟨0, rfl⟩
  refine W.cs (cells' := cells) (slots' := slots) hce.symm hsl.symm ?_
  have hk : cells + k ≤ k := by omega
  have hn : slots + n ≤ n := by omega
  clear hce hsl
  refine lv_aload_n hx hb dX10_number_0 rfl (lv_at hl 0 rfl) ?_
  refine lv_aload_n hx hb dX10_number_1 rfl (lv_at hl 0 rfl) ?_
  obtain ⟨⟨ci0, fs0, hci0, hM0⟩, hw⟩ := hw
  obtain rfl : ci0 = 9 := List.mem_singleton.mp hci0
  refine z_callI hZ (vx_runV (As := []) (rest := [.ref o]) hC.fix (w_X10_here hlt hw) (cwV 0 hts (lw_V q613 q615 qs6 q86 q616) rfl rfl rfl ⟨rfl, dd_X10_here⟩ ⟨Nat.le_of_ble_eq_true rfl, Nat.le_of_ble_eq_true rfl⟩) (z_preV hC hZ hM0 zc9) rfl rfl hl.1 rfl (lv_room (Nat.le_trans (zrm1 rfl zrm0) (Nat.le_of_ble_eq_true rfl))) dX10_number_2 ⟨(show cells + 0 ≤ k by omega), (show slots + 0 ≤ n by omega)⟩) (fun r36 M H locs hw1 hZ => ?_) (fun q M H locs ci fs E T9 N9 hw hZ hc1 hM1 hb1 => False.elim hw)
  replace hw := hw1
  clear hw1
  refine W.cs (cells' := cells) (slots' := slots) rfl rfl ?_
  refine lv_i2l hx hb dX10_number_5 rfl ?_
  refine lv_ldc2 hx hb hown (hts _ q864) dX10_number_6 ?_
  refine lv_ldc2 hx hb hown (hts _ q865) dX10_number_9 ?_
  refine z_callI hZ (vx_runSN (As := [.long (r36.toInt64), .long (48 : Int64), .long (57 : Int64)]) (rest := [.ref o]) hC.fix (w_X0_in hlt hw) ⟨va_cnB 3 hts (lw_meth q436) rfl rfl rfl (hC.nw q619 rfl) (hts _ q67) dd_X0_in ⟨Nat.le_of_ble_eq_true rfl, Nat.le_of_ble_eq_true rfl⟩, hts _ q435, trivial⟩ (z_preS hC hZ) rfl rfl hl.1 rfl (lv_room (Nat.le_trans (zrm1 rfl zrm0) (Nat.le_of_ble_eq_true rfl))) dX10_number_12 ⟨(show cells + 0 ≤ k by omega), (show slots + 0 ≤ n by omega)⟩) (fun r39 M H locs hw1 hZ => ?_) (fun q M H locs ci fs E T9 N9 hw hZ hc1 hM1 hb1 => False.elim hw)
  replace hw := hw1
  clear hw1
  refine W.cs (cells' := cells) (slots' := slots) rfl rfl ?_
  obtain ⟨⟨ci0, fs0, hci0, hM0⟩, hw⟩ := hw
  obtain ⟨k43, n44, hk1, hn1, hw⟩ := hw
  obtain rfl : ci0 = 9 := List.mem_singleton.mp hci0
  refine z_callU hZ (vx_runV (As := [.int r39]) (rest := []) hC.fix (w_X10_must hlt hw) (cwV 1 hts (lw_V q640 q642 qs9 q86 q643) rfl rfl rfl ⟨rfl, dd_X10_must⟩ ⟨Nat.le_of_ble_eq_true rfl, Nat.le_of_ble_eq_true rfl⟩) (z_preV hC hZ hM0 zc9) rfl rfl hl.1 rfl (lv_room (Nat.zero_le _)) dX10_number_15 ⟨(show cells + k43 ≤ k by omega), (show slots + n44 ≤ n by omega)⟩) (fun r42 M H locs hw1 hZ => ?_) (fun q M H locs ci fs E T9 N9 hw1 hZ hc1 hM1 hb1 => ?_)
  · replace hw := hw1
    clear hw1
    have hk : cells + k43 + (k - k43) ≤ k := by omega
    have hn : slots + n44 + (n - n44) ≤ n := by omega
    generalize cells + k43 = cells at hk ⊢
    generalize slots + n44 = slots at hn ⊢
    clear hk1 hn1
    refine lv_iconst (v := 0) hx hb dX10_number_18 (by decide) ?_
    refine lv_istore_n (i := 1) (lv' := [(1, .int (0 : Int32)), (0, .ref o)]) hx hb dX10_number_19 rfl hl (by decide) rfl (fun ls hl1 => ?_)
    replace hl := hl1
    clear hl1
    refine lv_iconst (v := 0) hx hb dX10_number_20 (by decide) ?_
    refine lv_istore_n (i := 2) (lv' := [(2, .int (0 : Int32)), (1, .int (0 : Int32)), (0, .ref o)]) hx hb dX10_number_21 rfl hl (by decide) rfl (fun ls hl1 => ?_)
    replace hl := hl1
    clear hl1
    obtain ⟨f1, hw⟩ := hw
    exact wk_X10_number_L22 hG f1 _ _ _ _ _ hk hn hZ (lv_sub hl [2, 1, 0] rfl) hw
  · replace hw := hw1
    clear hw1
    exact z_out hG hZ hM1 hb1 hc1 za0 (by omega) (by omega) hw
abbrev rm_X10_letter (K N : Nat) : Room := { frames := 7, cells := K, slots := N, locals := 198 }
def wp_X10_letter_L31 (D : zD) (post : Int32 → zM → Prop) (xp : Nat → zM → Prop) (o : Nat) (k : Nat) (n : Nat) (x3 : Int32) (y0 : Option Nat) (y1 : Int32) (M : zM) : Prop :=
    ((zd y0 fun b1 => (zis M b1 [9] ∧ (∃ k3 n4, k3 ≤ k ∧ n4 ≤ n ∧ wp_X10_must D (fun _ M => (zgI M o 9 1 fun g5 => (zp D M o 9 1 (.int (g5 + (1 : Int32))) fun M => post x3 M))) xp k3 n4 b1 y1 M))))
set_option maxHeartbeats 4000000 in
set_option maxRecDepth 100000 in
theorem wk_X10_letter_L31 {p : Program} {l : Launch} {e : Env} {s : State} {m : MethodId} {args : Array Value} {below : List Frame} {meth : Method} {c : Code} {D : zD} {post : Int32 → zM → Prop} {xp : Nat → zM → Prop} {K N : Nat} {o : Nat} (hG : zGx p l s m args meth c cX10_letter 4 "PluralBranches$Reader" D (some .int) "letter" []) : ∀ {H : Heap} {locs : List Loc} {cells slots : Nat} {ls : Array Slot} (k : Nat) (n : Nat) (x3 : Int32) (y0 : Option Nat) (y1 : Int32) (M : zM), cells + k ≤ K → slots + n ≤ N → zS D M H locs → lv_has ls 4 [(0, .ref o), (3, .int x3)] → wp_X10_letter_L31 D post xp o k n x3 y0 y1 M → W p l e (rm_X10_letter K N) s m args below meth c H locs cells slots (vx_MQ below (zQ D zI post) (zX D xp) args s K N (zA D)) (F0 m 31 ls [.int y1, va_rf y0]) := by
  have hC := hG.1
  have hx := hC.x
  have hb := hC.b
  have hown := hC.o
  have hts := hC.ts
  have hlt := hG.2.2.2.2.2
  intro H locs cells slots ls k n x3 y0 y1 M hk hn hZ hl hw
  obtain ⟨b7, hr0, hw⟩ := hw
  subst hr0
  obtain ⟨⟨ci0, fs0, hci0, hM0⟩, hw⟩ := hw
  obtain ⟨k9, n10, hk1, hn1, hw⟩ := hw
  obtain rfl : ci0 = 9 := List.mem_singleton.mp hci0
  refine z_callU hZ (vx_runV (As := [.int y1]) (rest := []) hC.fix (w_X10_must hlt hw) (cwV 1 hts (lw_V q640 q642 qs9 q86 q643) rfl rfl rfl ⟨rfl, dd_X10_must⟩ ⟨Nat.le_of_ble_eq_true rfl, Nat.le_of_ble_eq_true rfl⟩) (z_preV hC hZ hM0 zc9) rfl rfl hl.1 rfl (lv_room (Nat.zero_le _)) dX10_letter_31 ⟨(show cells + k9 ≤ K by omega), (show slots + n10 ≤ N by omega)⟩) (fun r8 M H locs hw1 hZ => ?_) (fun q M H locs ci fs E T9 N9 hw1 hZ hc1 hM1 hb1 => ?_)
  · replace hw := hw1
    clear hw1
    have hk : cells + k9 + (k - k9) ≤ K := by omega
    have hn : slots + n10 + (n - n10) ≤ N := by omega
    generalize cells + k9 = cells at hk ⊢
    generalize slots + n10 = slots at hn ⊢
    clear hk1 hn1
    refine lv_aload_n hx hb dX10_letter_34 rfl (lv_at hl 0 rfl) ?_
    refine lv_dup hx hb dX10_letter_35 rfl ?_
    obtain ⟨fs0, g11, hM0, hx0, hw⟩ := hw
    refine z_get hC hZ hM0 zc9 1 (by decide) q570 (fun _ h9 => h9) hx0 dX10_letter_36 ?_
    refine lv_iconst (v := 1) hx hb dX10_letter_39 (by decide) ?_
    refine lv_iadd hx hb dX10_letter_40 ?_
    obtain ⟨fs0, hM0, hb0, hk0, hw⟩ := hw
    refine z_put hC hZ hM0 hb0 zc9 1 (by decide) q570 (fun _ h9 => h9) (by decide) rfl rfl hk0 dX10_letter_41 (fun H locs hZ => ?_)
    generalize zu M _ _ = M at hw hZ
    refine lv_iload_n hx hb dX10_letter_44 rfl (lv_at hl 1 rfl) ?_
    exact z_iret hG hZ (by omega) (by omega) hw dX10_letter_45
  · replace hw := hw1
    clear hw1
    exact z_out hG hZ hM1 hb1 hc1 za0 (by omega) (by omega) hw
def wp_X10_letter_L20 (D : zD) (post : Int32 → zM → Prop) (xp : Nat → zM → Prop) (o : Nat) (k : Nat) (n : Nat) (y0 : Int32) (M : zM) : Prop :=
    ((y0 < 0 → wp_X10_letter_L31 D post xp o k n y0 (some o) (0 : Int32) M) ∧ (¬ y0 < 0 → wp_X10_letter_L31 D post xp o k n y0 (some o) (1 : Int32) M))
set_option maxHeartbeats 4000000 in
set_option maxRecDepth 100000 in
theorem wk_X10_letter_L20 {p : Program} {l : Launch} {e : Env} {s : State} {m : MethodId} {args : Array Value} {below : List Frame} {meth : Method} {c : Code} {D : zD} {post : Int32 → zM → Prop} {xp : Nat → zM → Prop} {K N : Nat} {o : Nat} (hG : zGx p l s m args meth c cX10_letter 4 "PluralBranches$Reader" D (some .int) "letter" []) : ∀ {H : Heap} {locs : List Loc} {cells slots : Nat} {ls : Array Slot} (k : Nat) (n : Nat) (y0 : Int32) (M : zM), cells + k ≤ K → slots + n ≤ N → zS D M H locs → lv_has ls 4 [(0, .ref o)] → wp_X10_letter_L20 D post xp o k n y0 M → W p l e (rm_X10_letter K N) s m args below meth c H locs cells slots (vx_MQ below (zQ D zI post) (zX D xp) args s K N (zA D)) (F0 m 20 ls [.int y0]) := by
  have hC := hG.1
  have hx := hC.x
  have hb := hC.b
  have hown := hC.o
  have hts := hC.ts
  have hlt := hG.2.2.2.2.2
  intro H locs cells slots ls k n y0 M hk hn hZ hl hw
  refine lv_istore_n (i := 3) (lv' := [(3, .int y0), (0, .ref o)]) hx hb dX10_letter_20 rfl hl (by decide) rfl (fun ls hl1 => ?_)
  replace hl := hl1
  clear hl1
  refine lv_aload_n hx hb dX10_letter_21 rfl (lv_at hl 1 rfl) ?_
  refine lv_iload_n hx hb dX10_letter_22 rfl (lv_at hl 0 rfl) ?_
  refine lv_if_lt (tgt := 30) hx hb dX10_letter_23 (by decide) (fun c14 => ?_) (fun c14 => ?_)
  · replace hw := hw.1 c14
    refine lv_iconst (v := 0) hx hb dX10_letter_30 (by decide) ?_
    exact wk_X10_letter_L31 hG _ _ _ _ _ _ hk hn hZ (lv_sub hl [1, 0] rfl) hw
  · replace hw := hw.2 c14
    refine lv_iconst (v := 1) hx hb dX10_letter_26 (by decide) ?_
    refine lv_goto (tgt := 31) hx hb dX10_letter_27 (by decide) ?_
    exact wk_X10_letter_L31 hG _ _ _ _ _ _ hk hn hZ (lv_sub hl [1, 0] rfl) hw
def wp_X10_letter (D : zD) (post : Int32 → zM → Prop) (xp : Nat → zM → Prop) (k : Nat) (n : Nat) (o : Nat) (a0 : Option Nat) (a1 : Int32) (M : zM) : Prop :=
    ((zis M o [9] ∧ wp_X10_here D (fun r15 M => ((0 ≤ r15 → ((zis M o [9] ∧ wp_X10_here D (fun r18 M => ((zd a0 fun b21 => (zis M b21 [30] ∧ wp_J11_indexOf D (fun r22 M => wp_X10_letter_L20 D post xp o k n r22 M) b21 ((r18.toUInt32 % 65536).toInt32) M)))) o M))) ∧ (¬ 0 ≤ r15 → wp_X10_letter_L20 D post xp o k n (-1 : Int32) M))) o M))
set_option maxHeartbeats 4000000 in
set_option maxRecDepth 100000 in
theorem w_X10_letter {l : Launch} {D : zD} {post : Int32 → zM → Prop} {xp : Nat → zM → Prop} (hlt : l.stackTraces = false) {k : Nat} {n : Nat} {o : Nat} {a0 : Option Nat} {a1 : Int32} {M : zM} (hw : wp_X10_letter D post xp k n o a0 a1 M) : zMet l D yX10_letter (ws_ yX10_letter cX10_letter 4 (some .int)) (rm_X10_letter k n) k n [.ref o, va_rf a0, .int a1] M zI post xp := by
  unfold wp_X10_letter at hw
  have hlv : lv_args 0 [.ref o, va_rf a0, .int a1] = [(0, .ref o), (1, va_rf a0), (2, .int a1)] := (zargs1 rfl (zargs1 (zcat _) (zargs1 rfl rfl)))
  refine z_ofW hlt (by decide) (Nat.le_trans (zsl1 rfl (zsl1 (zcat _) (zsl1 rfl (Nat.le_refl 0 : (lg_sl []).length ≤ 0)))) (Nat.le_of_ble_eq_true rfl)) hlv ?_
  intro p e s m args below meth c ls hG hZ hl
  have hC := hG.1
  have hx := hC.x
  have hb := hC.b
  have hown := hC.o
  have hts := hC.ts
  have hlt := hG.2.2.2.2.2
  obtain ⟨cells, hce⟩ : ∃ z : Nat, z = 0 := ⟨0, rfl⟩
  obtain ⟨slots, hsl⟩ : ∃ z : Nat, z = 0 := ⟨0, rfl⟩
  refine W.cs (cells' := cells) (slots' := slots) hce.symm hsl.symm ?_
  have hk : cells + k ≤ k := by omega
  have hn : slots + n ≤ n := by omega
  clear hce hsl
  refine lv_aload_n hx hb dX10_letter_0 rfl (lv_at hl 0 rfl) ?_
  obtain ⟨⟨ci0, fs0, hci0, hM0⟩, hw⟩ := hw
  obtain rfl : ci0 = 9 := List.mem_singleton.mp hci0
  refine z_callI hZ (vx_runV (As := []) (rest := []) hC.fix (w_X10_here hlt hw) (cwV 0 hts (lw_V q613 q615 qs6 q86 q616) rfl rfl rfl ⟨rfl, dd_X10_here⟩ ⟨Nat.le_of_ble_eq_true rfl, Nat.le_of_ble_eq_true rfl⟩) (z_preV hC hZ hM0 zc9) rfl rfl hl.1 rfl (lv_room (Nat.zero_le _)) dX10_letter_1 ⟨(show cells + 0 ≤ k by omega), (show slots + 0 ≤ n by omega)⟩) (fun r26 M H locs hw1 hZ => ?_) (fun q M H locs ci fs E T9 N9 hw hZ hc1 hM1 hb1 => False.elim hw)
  replace hw := hw1
  clear hw1
  refine W.cs (cells' := cells) (slots' := slots) rfl rfl ?_
  refine lv_if_ge (tgt := 11) hx hb dX10_letter_4 (by decide) (fun c36 => ?_) (fun c36 => ?_)
  · replace hw := hw.1 c36
    refine z_aload_n hC dX10_letter_11 rfl (lv_at hl 1 rfl) ?_
    refine lv_aload_n hx hb dX10_letter_12 rfl (lv_at hl 0 rfl) ?_
    obtain ⟨⟨ci0, fs0, hci0, hM0⟩, hw⟩ := hw
    obtain rfl : ci0 = 9 := List.mem_singleton.mp hci0
    refine z_callI hZ (vx_runV (As := []) (rest := [va_rf a0]) hC.fix (w_X10_here hlt hw) (cwV 0 hts (lw_V q613 q615 qs6 q86 q616) rfl rfl rfl ⟨rfl, dd_X10_here⟩ ⟨Nat.le_of_ble_eq_true rfl, Nat.le_of_ble_eq_true rfl⟩) (z_preV hC hZ hM0 zc9) rfl rfl hl.1 rfl (lv_room (Nat.le_trans (zrm1 (zcat _) zrm0) (Nat.le_of_ble_eq_true rfl))) dX10_letter_13 ⟨(show cells + 0 ≤ k by omega), (show slots + 0 ≤ n by omega)⟩) (fun r29 M H locs hw1 hZ => ?_) (fun q M H locs ci fs E T9 N9 hw hZ hc1 hM1 hb1 => False.elim hw)
    replace hw := hw1
    clear hw1
    refine W.cs (cells' := cells) (slots' := slots) rfl rfl ?_
    refine lv_i2c hx hb dX10_letter_16 rfl ?_
    obtain ⟨b32, hr0, hw⟩ := hw
    subst hr0
    obtain ⟨⟨ci0, fs0, hci0, hM0⟩, hw⟩ := hw
    obtain rfl : ci0 = 30 := List.mem_singleton.mp hci0
    refine z_callI hZ (vx_runV (As := [.int ((r29.toUInt32 % 65536).toInt32)]) (rest := []) hC.fix (w_J11_indexOf hlt hw) (cwV 1 hts (lw_V q872 q873 q874 q102 q875) rfl rfl rfl ⟨rfl, dd_J11_indexOf⟩ ⟨Nat.le_of_ble_eq_true rfl, Nat.le_of_ble_eq_true rfl⟩) (z_preV hC hZ hM0 zc30) rfl rfl hl.1 rfl (lv_room (Nat.zero_le _)) dX10_letter_17 ⟨(show cells + 0 ≤ k by omega), (show slots + 0 ≤ n by omega)⟩) (fun r33 M H locs hw1 hZ => ?_) (fun q M H locs ci fs E T9 N9 hw hZ hc1 hM1 hb1 => False.elim hw)
    replace hw := hw1
    clear hw1
    refine W.cs (cells' := cells) (slots' := slots) rfl rfl ?_
    exact wk_X10_letter_L20 hG _ _ _ _ hk hn hZ (lv_sub hl [0] rfl) hw
  · replace hw := hw.2 c36
    refine lv_iconst (v := (-1)) hx hb dX10_letter_7 (by decide) ?_
    refine lv_goto (tgt := 20) hx hb dX10_letter_8 (by decide) ?_
    exact wk_X10_letter_L20 hG _ _ _ _ hk hn hZ (lv_sub hl [0] rfl) hw
abbrev rm_X23_init : Room := { frames := 1, cells := 0, slots := 0, locals := 64 }
def wp_X23_init (D : zD) (post : Unit → zM → Prop) (o : Nat) (a0 : Int32) (a1 : Option Nat) (M : zM) : Prop :=
    (zp D M o 20 0 (.int a0) fun M => (zp D M o 20 1 (va_rf a1) fun M => post () M))
set_option maxHeartbeats 4000000 in
set_option maxRecDepth 100000 in
theorem w_X23_init {l : Launch} {D : zD} {post : Unit → zM → Prop} (hlt : l.stackTraces = false) {o : Nat} {a0 : Int32} {a1 : Option Nat} {M : zM} (hw : wp_X23_init D post o a0 a1 M) : zMet l D yX23_init (ws_ yX23_init cX23_init 3 (none)) rm_X23_init 0 0 [.ref o, .int a0, va_rf a1] M zU post (fun _ _ => False) := by
  unfold wp_X23_init at hw
  have hlv : lv_args 0 [.ref o, .int a0, va_rf a1] = [(0, .ref o), (1, .int a0), (2, va_rf a1)] := (zargs1 rfl (zargs1 rfl (zargs1 (zcat _) rfl)))
  refine z_ofW hlt (by decide) (Nat.le_trans (zsl1 rfl (zsl1 rfl (zsl1 (zcat _) (Nat.le_refl 0 : (lg_sl []).length ≤ 0)))) (Nat.le_of_ble_eq_true rfl)) hlv ?_
  intro p e s m args below meth c ls hG hZ hl
  have hC := hG.1
  have hx := hC.x
  have hb := hC.b
  have hown := hC.o
  have hts := hC.ts
  have hlt := hG.2.2.2.2.2
  obtain ⟨cells, hce⟩ : ∃ z : Nat, z = 0 := ⟨0, rfl⟩
  obtain ⟨slots, hsl⟩ : ∃ z : Nat, z = 0 := ⟨0, rfl⟩
  refine W.cs (cells' := cells) (slots' := slots) hce.symm hsl.symm ?_
  have hk : cells ≤ 0 := Nat.le_of_eq hce
  have hn : slots ≤ 0 := Nat.le_of_eq hsl
  clear hce hsl
  refine lv_aload_n hx hb dX23_init_0 rfl (lv_at hl 0 rfl) ?_
  refine W.objInit hx hb hown (hts _ q968) (hts _ q124) (hts _ q125) rfl (by rw [hC.ml]; exact hl.1) rfl dX23_init_1 (Nat.le_of_ble_eq_true rfl) (Nat.le_of_ble_eq_true rfl) ?_
  refine W.eq (g2 := F0 m 4 ls []) rfl ?_
  refine lv_aload_n hx hb dX23_init_4 rfl (lv_at hl 0 rfl) ?_
  refine lv_iload_n hx hb dX23_init_5 rfl (lv_at hl 1 rfl) ?_
  obtain ⟨fs0, hM0, hb0, hk0, hw⟩ := hw
  refine z_putF hC hZ hM0 hb0 zc20 0 (by decide) q969 (fun _ h9 => h9) (by decide) hG.2.2.2.1 rfl rfl rfl hk0 dX23_init_6 (fun H locs hZ => ?_)
  generalize zu M _ _ = M at hw hZ
  refine lv_aload_n hx hb dX23_init_9 rfl (lv_at hl 0 rfl) ?_
  refine z_aload_n hC dX23_init_10 rfl (lv_at hl 2 rfl) ?_
  obtain ⟨fs0, hM0, hb0, hk0, hw⟩ := hw
  refine z_putF hC hZ hM0 hb0 zc20 1 (by decide) q973 (fun _ h9 => h9) (by decide) hG.2.2.2.1 rfl zrf_nar zrf_fit hk0 dX23_init_11 (fun H locs hZ => ?_)
  generalize zu M _ _ = M at hw hZ
  exact z_vret hG hZ hk hn hw dX23_init_14
