set_option maxRecDepth 100000
theorem dd_X0_need : yX0_need.cls ≠ "java/lang/invoke/MethodHandle" ∧ yX0_need.cls ≠ "java/lang/invoke/VarHandle" ∧ (parseMethodDescriptor yX0_need.desc).map (fun d => d.parameters.length) = some 2 := by decide +kernel
theorem dd_X10_braced : yX10_braced.cls ≠ "java/lang/invoke/MethodHandle" ∧ yX10_braced.cls ≠ "java/lang/invoke/VarHandle" ∧ (parseMethodDescriptor yX10_braced.desc).map (fun d => d.parameters.length) = some 0 := by decide +kernel
theorem dd_X10_branch : yX10_branch.cls ≠ "java/lang/invoke/MethodHandle" ∧ yX10_branch.cls ≠ "java/lang/invoke/VarHandle" ∧ (parseMethodDescriptor yX10_branch.desc).map (fun d => d.parameters.length) = some 1 := by decide +kernel
theorem dd_X10_choice : yX10_choice.cls ≠ "java/lang/invoke/MethodHandle" ∧ yX10_choice.cls ≠ "java/lang/invoke/VarHandle" ∧ (parseMethodDescriptor yX10_choice.desc).map (fun d => d.parameters.length) = some 3 := by decide +kernel
theorem dd_X10_isSign : yX10_isSign.cls ≠ "java/lang/invoke/MethodHandle" ∧ yX10_isSign.cls ≠ "java/lang/invoke/VarHandle" ∧ (parseMethodDescriptor yX10_isSign.desc).map (fun d => d.parameters.length) = some 0 := by decide +kernel
theorem dd_X10_letter : yX10_letter.cls ≠ "java/lang/invoke/MethodHandle" ∧ yX10_letter.cls ≠ "java/lang/invoke/VarHandle" ∧ (parseMethodDescriptor yX10_letter.desc).map (fun d => d.parameters.length) = some 2 := by decide +kernel
theorem dd_X10_number : yX10_number.cls ≠ "java/lang/invoke/MethodHandle" ∧ yX10_number.cls ≠ "java/lang/invoke/VarHandle" ∧ (parseMethodDescriptor yX10_number.desc).map (fun d => d.parameters.length) = some 0 := by decide +kernel
theorem dd_X10_part : yX10_part.cls ≠ "java/lang/invoke/MethodHandle" ∧ yX10_part.cls ≠ "java/lang/invoke/VarHandle" ∧ (parseMethodDescriptor yX10_part.desc).map (fun d => d.parameters.length) = some 0 := by decide +kernel
theorem dd_X10_parts : yX10_parts.cls ≠ "java/lang/invoke/MethodHandle" ∧ yX10_parts.cls ≠ "java/lang/invoke/VarHandle" ∧ (parseMethodDescriptor yX10_parts.desc).map (fun d => d.parameters.length) = some 0 := by decide +kernel
theorem dd_X10_pattern : yX10_pattern.cls ≠ "java/lang/invoke/MethodHandle" ∧ yX10_pattern.cls ≠ "java/lang/invoke/VarHandle" ∧ (parseMethodDescriptor yX10_pattern.desc).map (fun d => d.parameters.length) = some 0 := by decide +kernel
theorem dd_X10_uses : yX10_uses.cls ≠ "java/lang/invoke/MethodHandle" ∧ yX10_uses.cls ≠ "java/lang/invoke/VarHandle" ∧ (parseMethodDescriptor yX10_uses.desc).map (fun d => d.parameters.length) = some 3 := by decide +kernel
theorem dd_X12_init : yX12_init.cls ≠ "java/lang/invoke/MethodHandle" ∧ yX12_init.cls ≠ "java/lang/invoke/VarHandle" ∧ (parseMethodDescriptor yX12_init.desc).map (fun d => d.parameters.length) = some 0 := by decide +kernel
theorem dd_X14_init : yX14_init.cls ≠ "java/lang/invoke/MethodHandle" ∧ yX14_init.cls ≠ "java/lang/invoke/VarHandle" ∧ (parseMethodDescriptor yX14_init.desc).map (fun d => d.parameters.length) = some 0 := by decide +kernel
theorem dd_X17_init : yX17_init.cls ≠ "java/lang/invoke/MethodHandle" ∧ yX17_init.cls ≠ "java/lang/invoke/VarHandle" ∧ (parseMethodDescriptor yX17_init.desc).map (fun d => d.parameters.length) = some 1 := by decide +kernel
theorem dd_X18_init : yX18_init.cls ≠ "java/lang/invoke/MethodHandle" ∧ yX18_init.cls ≠ "java/lang/invoke/VarHandle" ∧ (parseMethodDescriptor yX18_init.desc).map (fun d => d.parameters.length) = some 2 := by decide +kernel
theorem dd_X21_init : yX21_init.cls ≠ "java/lang/invoke/MethodHandle" ∧ yX21_init.cls ≠ "java/lang/invoke/VarHandle" ∧ (parseMethodDescriptor yX21_init.desc).map (fun d => d.parameters.length) = some 2 := by decide +kernel
theorem dd_X22_init : yX22_init.cls ≠ "java/lang/invoke/MethodHandle" ∧ yX22_init.cls ≠ "java/lang/invoke/VarHandle" ∧ (parseMethodDescriptor yX22_init.desc).map (fun d => d.parameters.length) = some 2 := by decide +kernel
theorem dd_X23_init : yX23_init.cls ≠ "java/lang/invoke/MethodHandle" ∧ yX23_init.cls ≠ "java/lang/invoke/VarHandle" ∧ (parseMethodDescriptor yX23_init.desc).map (fun d => d.parameters.length) = some 2 := by decide +kernel
theorem dd_X24_init : yX24_init.cls ≠ "java/lang/invoke/MethodHandle" ∧ yX24_init.cls ≠ "java/lang/invoke/VarHandle" ∧ (parseMethodDescriptor yX24_init.desc).map (fun d => d.parameters.length) = some 1 := by decide +kernel
abbrev rm_X10_branch (d : Nat) (K N : Nat) : Room := { frames := 9 + 5 * d, cells := K, slots := N, locals := 237 + 113 * d }
abbrev rm_X10_choice (d : Nat) (K N : Nat) : Room := { frames := 10 + 5 * d, cells := K, slots := N, locals := 261 + 113 * d }
abbrev rm_X10_braced (d : Nat) (K N : Nat) : Room := { frames := 11 + 5 * d, cells := K, slots := N, locals := 285 + 113 * d }
abbrev rm_X10_part (d : Nat) (K N : Nat) : Room := { frames := 12 + 5 * d, cells := K, slots := N, locals := 308 + 113 * d }
abbrev rm_X10_parts (d : Nat) (K N : Nat) : Room := { frames := 8 + 5 * d, cells := K, slots := N, locals := 216 + 113 * d }
def wp_X10_branch_L101 (D : zD) (P : (Option Nat → zM → Prop) → (Nat → zM → Prop) → Nat → Nat → Nat → zM → Prop) (post : Unit → zM → Prop) (xp : Nat → zM → Prop) (o : Nat) (k : Nat) (n : Nat) (x1 : Option Nat) (x3 : Int32) (M : zM) : Prop :=
    ((zis M o [9] ∧ (∃ k2 n3, k2 ≤ k ∧ n3 ≤ n ∧ wp_X10_wants D (fun _ M => ((zis M o [9] ∧ (∃ k5 n6, k5 ≤ (k - k2) ∧ n6 ≤ (n - n3) ∧ P (fun r4 M => ((zis M o [9] ∧ (∃ k8 n9, k8 ≤ ((k - k2) - k5) ∧ n9 ≤ ((n - n3) - n6) ∧ wp_X10_wants D (fun _ M => ((zd x1 fun b10 => zgRm M b10 [(18, 0), (19, 0)] fun g11 => (znew D M 20 2 [.int 0, .null] (((k - k2) - k5) - k8) (((n - n3) - n6) - n9) fun b12 M => (wp_X23_init D (fun _ M => ((zd g11 fun b16 => (zis M b16 [26] ∧ (∃ k18 n19, k18 ≤ ((((k - k2) - k5) - k8) - 1) ∧ n19 ≤ ((((n - n3) - n6) - n9) - 2) ∧ wp_J3_add D (fun r17 M => post () M) k18 n19 b16 (some b12) M))))) b12 x3 r4 M))))) xp k8 n9 o (41 : Int32) M)))) xp k5 n6 o M)))) xp k2 n3 o (40 : Int32) M)))
set_option maxHeartbeats 4000000 in
set_option maxRecDepth 100000 in
theorem wk_X10_branch_L101 {p : Program} {l : Launch} {e : Env} {s : State} {m : MethodId} {args : Array Value} {below : List Frame} {meth : Method} {c : Code} {D : zD} {P : (Option Nat → zM → Prop) → (Nat → zM → Prop) → Nat → Nat → Nat → zM → Prop} {post : Unit → zM → Prop} {xp : Nat → zM → Prop} {K N : Nat} {d : Nat} {o : Nat} (hG : zGx p l s m args meth c cX10_branch 5 "PluralBranches$Reader" D (none) "branch" []) (hP : ∀ (post : Option Nat → zM → Prop) (xp : Nat → zM → Prop) (k n : Nat) (o : Nat) (M : zM), P post xp k n o M → zMet l D yX10_parts (ws_ yX10_parts cX10_parts 2 (some (.object "PluralBranches$Parts"))) (rm_X10_parts d k n) k n [.ref o] M zR post xp) : ∀ {H : Heap} {locs : List Loc} {cells slots : Nat} {ls : Array Slot} (k : Nat) (n : Nat) (x1 : Option Nat) (x3 : Int32) (M : zM), cells + k ≤ K → slots + n ≤ N → zS D M H locs → lv_has ls 5 [(0, .ref o), (1, va_rf x1), (3, .int x3)] → wp_X10_branch_L101 D P post xp o k n x1 x3 M → W p l e (rm_X10_branch d K N) s m args below meth c H locs cells slots (vx_MQ below (zQ D zU post) (zX D xp) args s K N (zA D)) (F0 m 101 ls []) := by
  have hC := hG.1
  have hx := hC.x
  have hb := hC.b
  have hown := hC.o
  have hts := hC.ts
  have hlt := hG.2.2.2.2.2
  intro H locs cells slots ls k n x1 x3 M hk hn hZ hl hw
  refine lv_aload_n hx hb dX10_branch_101 rfl (lv_at hl 0 rfl) ?_
  refine lv_bipush (v := 40) hx hb dX10_branch_102 (by decide) ?_
  obtain ⟨⟨ci0, fs0, hci0, hM0⟩, hw⟩ := hw
  obtain ⟨k21, n22, hk1, hn1, hw⟩ := hw
  obtain rfl : ci0 = 9 := List.mem_singleton.mp hci0
  refine z_callU hZ (vx_runV (As := [.int (40 : Int32)]) (rest := []) hC.fix (w_X10_wants hlt hw) (cwV 1 hts (lw_V q747 q749 qs14 q86 q750) rfl rfl rfl ⟨rfl, dd_X10_wants⟩ ⟨(show 7 + 1 ≤ 9 + 5 * d by omega), (show 8 + (2 + 11) + (198) ≤ 237 + 113 * d by omega)⟩) (z_preV hC hZ hM0 zc9) rfl rfl hl.1 rfl (lv_room (Nat.zero_le _)) dX10_branch_104 ⟨(show cells + k21 ≤ K by omega), (show slots + n22 ≤ N by omega)⟩) (fun r20 M H locs hw1 hZ => ?_) (fun q M H locs ci fs E T9 N9 hw1 hZ hc1 hM1 hb1 => ?_)
  · replace hw := hw1
    clear hw1
    have hk : cells + k21 + (k - k21) ≤ K := by omega
    have hn : slots + n22 + (n - n22) ≤ N := by omega
    generalize cells + k21 = cells at hk ⊢
    generalize slots + n22 = slots at hn ⊢
    clear hk1 hn1
    refine lv_aload_n hx hb dX10_branch_107 rfl (lv_at hl 0 rfl) ?_
    obtain ⟨⟨ci0, fs0, hci0, hM0⟩, hw⟩ := hw
    obtain ⟨k24, n25, hk1, hn1, hw⟩ := hw
    obtain rfl : ci0 = 9 := List.mem_singleton.mp hci0
    refine z_callR hZ (vx_runV (As := []) (rest := []) hC.fix (hP _ _ _ _ _ _ hw) (cwV 0 hts (lw_V q592 q594 qs4 q86 q595) rfl rfl rfl ⟨rfl, dd_X10_parts⟩ ⟨(show 8 + 5 * d + 1 ≤ 9 + 5 * d by omega), (show 8 + (2 + 11) + (216 + 113 * d) ≤ 237 + 113 * d by omega)⟩) (z_preV hC hZ hM0 zc9) rfl rfl hl.1 rfl (lv_room (Nat.zero_le _)) dX10_branch_108 ⟨(show cells + k24 ≤ K by omega), (show slots + n25 ≤ N by omega)⟩) (fun r23 M H locs hw1 hZ => ?_) (fun q M H locs ci fs E T9 N9 hw1 hZ hc1 hM1 hb1 => ?_)
    · replace hw := hw1
      clear hw1
      have hk : cells + k24 + ((k - k21) - k24) ≤ K := by omega
      have hn : slots + n25 + ((n - n22) - n25) ≤ N := by omega
      generalize cells + k24 = cells at hk ⊢
      generalize slots + n25 = slots at hn ⊢
      clear hk1 hn1
      refine z_astore (i := 4) (lv' := [(4, va_rf r23), (0, .ref o), (1, va_rf x1), (3, .int x3)]) hC dX10_branch_111 hl (by decide) rfl (fun ls hl1 => ?_)
      replace hl := hl1
      clear hl1
      refine lv_aload_n hx hb dX10_branch_113 rfl (lv_at hl 1 rfl) ?_
      refine lv_bipush (v := 41) hx hb dX10_branch_114 (by decide) ?_
      obtain ⟨⟨ci0, fs0, hci0, hM0⟩, hw⟩ := hw
      obtain ⟨k27, n28, hk1, hn1, hw⟩ := hw
      obtain rfl : ci0 = 9 := List.mem_singleton.mp hci0
      refine z_callU hZ (vx_runV (As := [.int (41 : Int32)]) (rest := []) hC.fix (w_X10_wants hlt hw) (cwV 1 hts (lw_V q747 q749 qs14 q86 q750) rfl rfl rfl ⟨rfl, dd_X10_wants⟩ ⟨(show 7 + 1 ≤ 9 + 5 * d by omega), (show 8 + (2 + 11) + (198) ≤ 237 + 113 * d by omega)⟩) (z_preV hC hZ hM0 zc9) rfl rfl hl.1 rfl (lv_room (Nat.zero_le _)) dX10_branch_116 ⟨(show cells + k27 ≤ K by omega), (show slots + n28 ≤ N by omega)⟩) (fun r26 M H locs hw1 hZ => ?_) (fun q M H locs ci fs E T9 N9 hw1 hZ hc1 hM1 hb1 => ?_)
      · replace hw := hw1
        clear hw1
        have hk : cells + k27 + (((k - k21) - k24) - k27) ≤ K := by omega
        have hn : slots + n28 + (((n - n22) - n25) - n28) ≤ N := by omega
        generalize cells + k27 = cells at hk ⊢
        generalize slots + n28 = slots at hn ⊢
        clear hk1 hn1
        refine z_aload_n hC dX10_branch_119 rfl (lv_at hl 2 rfl) ?_
        obtain ⟨b29, hr0, hw⟩ := hw
        subst hr0
        obtain ⟨q0, fs0, g30, hL0, hM0, hx0, hw⟩ := hw
        refine z_getm hC hZ hM0 (L := [(18, 0), (19, 0)]) (ref := "PluralBranches$Choice") (index := 186) (zal (⟨_, _, _, _, zc18, by decide, q826, (fun _ h9 => h9)⟩) (zal (⟨_, _, _, _, zc19, by decide, q826, (fun _ h9 => h9)⟩) (za0))) hL0 hx0 dX10_branch_120 ?_
        obtain ⟨hk1, hn1, hw⟩ := hw
        refine z_new (fs := [.int 0, .null]) hC hZ zc20 q963 q964 q106 (zdefs (N := 2) (ty := tyX23) (fs := [.int 0, .null]) (by decide)) (show cells + 1 ≤ K by omega) (show slots + 2 ≤ N by omega) dX10_branch_123 (fun b31 H hq0 hq1 hZ => ?_)
        replace hw := hw b31 hq0 hq1
        generalize zu M _ _ = M at hw hZ
        have hk : cells + 1 + ((((k - k21) - k24) - k27) - 1) ≤ K := by omega
        have hn : slots + 2 + ((((n - n22) - n25) - n28) - 2) ≤ N := by omega
        generalize cells + 1 = cells at hk ⊢
        generalize slots + 2 = slots at hn ⊢
        clear hk1 hn1
        refine lv_dup hx hb dX10_branch_126 rfl ?_
        refine lv_iload_n hx hb dX10_branch_127 rfl (lv_at hl 3 rfl) ?_
        refine z_aload hC dX10_branch_128 (lv_at hl 0 rfl) ?_
        refine z_callU hZ (vx_runI (As := [.int x3, va_rf r23]) (rest := [.ref b31, va_rf g30]) hC.fix (w_X23_init hlt hw) (cwI 2 hts (lw_meth q967) rfl rfl rfl (hts _ q106) (hts _ q965) (hts _ q966) rfl dd_X23_init ⟨(show 1 + 1 ≤ 9 + 5 * d by omega), (show 8 + (3 + 11) + (64) ≤ 237 + 113 * d by omega)⟩) (z_preS hC hZ) rfl rfl hl.1 rfl (lv_room (Nat.le_trans (zrm1 rfl (zrm1 (zcat _) zrm0)) (Nat.le_of_ble_eq_true rfl))) dX10_branch_130 ⟨(show cells + 0 ≤ K by omega), (show slots + 0 ≤ N by omega)⟩) (fun r32 M H locs hw1 hZ => ?_) (fun q M H locs ci fs E T9 N9 hw hZ hc1 hM1 hb1 => False.elim hw)
        replace hw := hw1
        clear hw1
        refine W.cs (cells' := cells) (slots' := slots) rfl rfl ?_
        obtain ⟨b35, hr0, hw⟩ := hw
        subst hr0
        obtain ⟨⟨ci0, fs0, hci0, hM0⟩, hw⟩ := hw
        obtain ⟨k37, n38, hk1, hn1, hw⟩ := hw
        obtain rfl : ci0 = 26 := List.mem_singleton.mp hci0
        refine z_callI hZ (vx_runV (As := [.ref b31]) (rest := []) hC.fix (w_J3_add hlt hw) (cwV 1 hts (lw_V q846 q338 q339 q74 q340) rfl rfl rfl ⟨rfl, dd_J3_add⟩ ⟨(show 7 + 1 ≤ 9 + 5 * d by omega), (show 8 + (2 + 11) + (195) ≤ 237 + 113 * d by omega)⟩) (z_preV hC hZ hM0 zc26) rfl rfl hl.1 rfl (lv_room (Nat.zero_le _)) dX10_branch_133 ⟨(show cells + k37 ≤ K by omega), (show slots + n38 ≤ N by omega)⟩) (fun r36 M H locs hw1 hZ => ?_) (fun q M H locs ci fs E T9 N9 hw hZ hc1 hM1 hb1 => False.elim hw)
        replace hw := hw1
        clear hw1
        have hk : cells + k37 + (((((k - k21) - k24) - k27) - 1) - k37) ≤ K := by omega
        have hn : slots + n38 + (((((n - n22) - n25) - n28) - 2) - n38) ≤ N := by omega
        generalize cells + k37 = cells at hk ⊢
        generalize slots + n38 = slots at hn ⊢
        clear hk1 hn1
        refine lv_pop hx hb dX10_branch_136 rfl ?_
        exact z_vret hG hZ (by omega) (by omega) hw dX10_branch_137
      · replace hw := hw1
        clear hw1
        exact z_out hG hZ hM1 hb1 hc1 za0 (by omega) (by omega) hw
    · replace hw := hw1
      clear hw1
      exact z_out hG hZ hM1 hb1 hc1 za0 (by omega) (by omega) hw
  · replace hw := hw1
    clear hw1
    exact z_out hG hZ hM1 hb1 hc1 za0 (by omega) (by omega) hw
def wp_X10_branch_L85 (D : zD) (P : (Option Nat → zM → Prop) → (Nat → zM → Prop) → Nat → Nat → Nat → zM → Prop) (post : Unit → zM → Prop) (xp : Nat → zM → Prop) (o : Nat) (k : Nat) (n : Nat) (x1 : Option Nat) (x2 : Int32) (y0 : Int32) (M : zM) : Prop :=
    ((zd x1 fun b39 => (zis M b39 [18, 19] ∧ wp_X20_of D (fun r40 M => ((r40 = (-2 : Int32) → wp_X10_branch_L101 D P post xp o k n (some b39) y0 M) ∧ (¬ r40 = (-2 : Int32) → ((zis M o [9] ∧ wp_X10_lies D (fun _ M => wp_X10_branch_L101 D P post xp o k n (some b39) y0 M) o x2 M))))) b39 y0 M)))
set_option maxHeartbeats 4000000 in
set_option maxRecDepth 100000 in
theorem wk_X10_branch_L85 {p : Program} {l : Launch} {e : Env} {s : State} {m : MethodId} {args : Array Value} {below : List Frame} {meth : Method} {c : Code} {D : zD} {P : (Option Nat → zM → Prop) → (Nat → zM → Prop) → Nat → Nat → Nat → zM → Prop} {post : Unit → zM → Prop} {xp : Nat → zM → Prop} {K N : Nat} {d : Nat} {o : Nat} (hG : zGx p l s m args meth c cX10_branch 5 "PluralBranches$Reader" D (none) "branch" []) (hP : ∀ (post : Option Nat → zM → Prop) (xp : Nat → zM → Prop) (k n : Nat) (o : Nat) (M : zM), P post xp k n o M → zMet l D yX10_parts (ws_ yX10_parts cX10_parts 2 (some (.object "PluralBranches$Parts"))) (rm_X10_parts d k n) k n [.ref o] M zR post xp) : ∀ {H : Heap} {locs : List Loc} {cells slots : Nat} {ls : Array Slot} (k : Nat) (n : Nat) (x1 : Option Nat) (x2 : Int32) (y0 : Int32) (M : zM), cells + k ≤ K → slots + n ≤ N → zS D M H locs → lv_has ls 5 [(0, .ref o), (1, va_rf x1), (2, .int x2)] → wp_X10_branch_L85 D P post xp o k n x1 x2 y0 M → W p l e (rm_X10_branch d K N) s m args below meth c H locs cells slots (vx_MQ below (zQ D zU post) (zX D xp) args s K N (zA D)) (F0 m 85 ls [.int y0]) := by
  have hC := hG.1
  have hx := hC.x
  have hb := hC.b
  have hown := hC.o
  have hts := hC.ts
  have hlt := hG.2.2.2.2.2
  intro H locs cells slots ls k n x1 x2 y0 M hk hn hZ hl hw
  refine lv_istore_n (i := 3) (lv' := [(3, .int y0), (0, .ref o), (1, va_rf x1), (2, .int x2)]) hx hb dX10_branch_85 rfl hl (by decide) rfl (fun ls hl1 => ?_)
  replace hl := hl1
  clear hl1
  refine z_aload_n hC dX10_branch_86 rfl (lv_at hl 2 rfl) ?_
  refine lv_iload_n hx hb dX10_branch_87 rfl (lv_at hl 0 rfl) ?_
  obtain ⟨b47, hr0, hw⟩ := hw
  subst hr0
  obtain ⟨⟨ci0, fs0, hci0, hM0⟩, hw⟩ := hw
  obtain ⟨C0, T0, N0, ty0, hc0, hsel0⟩ : ∃ (C0 : String) (T0 : u_T) (N0 : Nat) (ty0 : Nat → FieldType), zCls ci0 C0 T0 N0 ty0 ∧ Cond.selects C0 ⟨"PluralBranches$Choice", "of", "(I)I"⟩ yX20_of ∈ lw_all := (zal ⟨_, _, _, _, zc18, q958⟩ (zal ⟨_, _, _, _, zc19, q957⟩ (za0)) : ∀ ci ∈ [18, 19], ∃ (C0 : String) (T0 : u_T) (N0 : Nat) (ty0 : Nat → FieldType), zCls ci C0 T0 N0 ty0 ∧ Cond.selects C0 ⟨"PluralBranches$Choice", "of", "(I)I"⟩ yX20_of ∈ lw_all) ci0 hci0
  refine z_callI hZ (vx_runU (As := [.int y0]) (rest := []) hC.fix (w_X20_of hlt hw) (va_cwU (owner := "PluralBranches$Choice") (x := ⟨"PluralBranches$Choice", "of", "(I)I"⟩) 1 hts (lw_app (zal q954 (zal q956 (zal hsel0 (zal q955 (zal q99 za0))))) (lw_meth q959)) rfl rfl rfl rfl (by decide +kernel) ⟨(show 4 + 1 ≤ 9 + 5 * d by omega), (show 8 + (3 + 11) + (128) ≤ 237 + 113 * d by omega)⟩) (z_preV hC hZ hM0 hc0) rfl rfl hl.1 rfl (lv_room (Nat.zero_le _)) dX10_branch_88 ⟨(show cells + 0 ≤ K by omega), (show slots + 0 ≤ N by omega)⟩) (fun r48 M H locs hw1 hZ => ?_) (fun q M H locs ci fs E T9 N9 hw hZ hc1 hM1 hb1 => False.elim hw)
  replace hw := hw1
  clear hw1
  refine W.cs (cells' := cells) (slots' := slots) rfl rfl ?_
  refine lv_bipush (v := (-2)) hx hb dX10_branch_91 (by decide) ?_
  refine lv_icmp_eq (tgt := 101) hx hb dX10_branch_93 (by decide) (fun c54 => ?_) (fun c54 => ?_)
  · replace hw := hw.1 c54
    exact wk_X10_branch_L101 hG hP _ _ _ _ _ hk hn hZ (lv_sub hl [1, 2, 0] rfl) hw
  · replace hw := hw.2 c54
    refine lv_aload_n hx hb dX10_branch_96 rfl (lv_at hl 1 rfl) ?_
    refine lv_iload_n hx hb dX10_branch_97 rfl (lv_at hl 3 rfl) ?_
    obtain ⟨⟨ci0, fs0, hci0, hM0⟩, hw⟩ := hw
    obtain rfl : ci0 = 9 := List.mem_singleton.mp hci0
    refine z_callU hZ (vx_runV (As := [.int x2]) (rest := []) hC.fix (w_X10_lies hlt hw) (cwV 1 hts (lw_V q722 q724 qs13 q86 q725) rfl rfl rfl ⟨rfl, dd_X10_lies⟩ ⟨(show 2 + 1 ≤ 9 + 5 * d by omega), (show 8 + (2 + 11) + (85) ≤ 237 + 113 * d by omega)⟩) (z_preV hC hZ hM0 zc9) rfl rfl hl.1 rfl (lv_room (Nat.zero_le _)) dX10_branch_98 ⟨(show cells + 0 ≤ K by omega), (show slots + 0 ≤ N by omega)⟩) (fun r51 M H locs hw1 hZ => ?_) (fun q M H locs ci fs E T9 N9 hw hZ hc1 hM1 hb1 => False.elim hw)
    replace hw := hw1
    clear hw1
    refine W.cs (cells' := cells) (slots' := slots) rfl rfl ?_
    exact wk_X10_branch_L101 hG hP _ _ _ _ _ hk hn hZ (lv_sub hl [1, 2, 0] rfl) hw
def wp_X10_branch_L82 (D : zD) (P : (Option Nat → zM → Prop) → (Nat → zM → Prop) → Nat → Nat → Nat → zM → Prop) (post : Unit → zM → Prop) (xp : Nat → zM → Prop) (o : Nat) (k : Nat) (n : Nat) (x1 : Option Nat) (x2 : Int32) (y0 : Option Nat) (y1 : Option Nat) (y2 : Int32) (M : zM) : Prop :=
    ((zd y0 fun b55 => (zis M b55 [9] ∧ (∃ k57 n58, k57 ≤ k ∧ n58 ≤ n ∧ wp_X10_letter D (fun r56 M => wp_X10_branch_L85 D P post xp o (k - k57) (n - n58) x1 x2 r56 M) xp k57 n58 b55 y1 y2 M))))
set_option maxHeartbeats 4000000 in
set_option maxRecDepth 100000 in
theorem wk_X10_branch_L82 {p : Program} {l : Launch} {e : Env} {s : State} {m : MethodId} {args : Array Value} {below : List Frame} {meth : Method} {c : Code} {D : zD} {P : (Option Nat → zM → Prop) → (Nat → zM → Prop) → Nat → Nat → Nat → zM → Prop} {post : Unit → zM → Prop} {xp : Nat → zM → Prop} {K N : Nat} {d : Nat} {o : Nat} (hG : zGx p l s m args meth c cX10_branch 5 "PluralBranches$Reader" D (none) "branch" []) (hP : ∀ (post : Option Nat → zM → Prop) (xp : Nat → zM → Prop) (k n : Nat) (o : Nat) (M : zM), P post xp k n o M → zMet l D yX10_parts (ws_ yX10_parts cX10_parts 2 (some (.object "PluralBranches$Parts"))) (rm_X10_parts d k n) k n [.ref o] M zR post xp) : ∀ {H : Heap} {locs : List Loc} {cells slots : Nat} {ls : Array Slot} (k : Nat) (n : Nat) (x1 : Option Nat) (x2 : Int32) (y0 : Option Nat) (y1 : Option Nat) (y2 : Int32) (M : zM), cells + k ≤ K → slots + n ≤ N → zS D M H locs → lv_has ls 5 [(0, .ref o), (1, va_rf x1), (2, .int x2)] → wp_X10_branch_L82 D P post xp o k n x1 x2 y0 y1 y2 M → W p l e (rm_X10_branch d K N) s m args below meth c H locs cells slots (vx_MQ below (zQ D zU post) (zX D xp) args s K N (zA D)) (F0 m 82 ls [.int y2, va_rf y1, va_rf y0]) := by
  have hC := hG.1
  have hx := hC.x
  have hb := hC.b
  have hown := hC.o
  have hts := hC.ts
  have hlt := hG.2.2.2.2.2
  intro H locs cells slots ls k n x1 x2 y0 y1 y2 M hk hn hZ hl hw
  obtain ⟨b59, hr0, hw⟩ := hw
  subst hr0
  obtain ⟨⟨ci0, fs0, hci0, hM0⟩, hw⟩ := hw
  obtain ⟨k61, n62, hk1, hn1, hw⟩ := hw
  obtain rfl : ci0 = 9 := List.mem_singleton.mp hci0
  refine z_callI hZ (vx_runV (As := [va_rf y1, .int y2]) (rest := []) hC.fix (w_X10_letter hlt hw) (cwV 2 hts (lw_V q868 q870 qs21 q86 q871) rfl rfl rfl ⟨rfl, dd_X10_letter⟩ ⟨(show 7 + 1 ≤ 9 + 5 * d by omega), (show 8 + (4 + 11) + (198) ≤ 237 + 113 * d by omega)⟩) (z_preV hC hZ hM0 zc9) rfl rfl hl.1 rfl (lv_room (Nat.zero_le _)) dX10_branch_82 ⟨(show cells + k61 ≤ K by omega), (show slots + n62 ≤ N by omega)⟩) (fun r60 M H locs hw1 hZ => ?_) (fun q M H locs ci fs E T9 N9 hw1 hZ hc1 hM1 hb1 => ?_)
  · replace hw := hw1
    clear hw1
    have hk : cells + k61 + (k - k61) ≤ K := by omega
    have hn : slots + n62 + (n - n62) ≤ N := by omega
    generalize cells + k61 = cells at hk ⊢
    generalize slots + n62 = slots at hn ⊢
    clear hk1 hn1
    exact wk_X10_branch_L85 hG hP _ _ _ _ _ _ hk hn hZ (lv_sub hl [0, 1, 2] rfl) hw
  · replace hw := hw1
    clear hw1
    exact z_out hG hZ hM1 hb1 hc1 za0 (by omega) (by omega) hw
def wp_X10_branch_L73 (D : zD) (P : (Option Nat → zM → Prop) → (Nat → zM → Prop) → Nat → Nat → Nat → zM → Prop) (post : Unit → zM → Prop) (xp : Nat → zM → Prop) (o : Nat) (k : Nat) (n : Nat) (x1 : Option Nat) (x2 : Int32) (y0 : Option Nat) (y1 : Option Nat) (y2 : Int32) (M : zM) : Prop :=
    ((¬ y2 = (1 : Int32) → wp_X10_branch_L82 D P post xp o k n x1 x2 y0 y1 (0 : Int32) M) ∧ (y2 = (1 : Int32) → wp_X10_branch_L82 D P post xp o k n x1 x2 y0 y1 (1 : Int32) M))
set_option maxHeartbeats 4000000 in
set_option maxRecDepth 100000 in
theorem wk_X10_branch_L73 {p : Program} {l : Launch} {e : Env} {s : State} {m : MethodId} {args : Array Value} {below : List Frame} {meth : Method} {c : Code} {D : zD} {P : (Option Nat → zM → Prop) → (Nat → zM → Prop) → Nat → Nat → Nat → zM → Prop} {post : Unit → zM → Prop} {xp : Nat → zM → Prop} {K N : Nat} {d : Nat} {o : Nat} (hG : zGx p l s m args meth c cX10_branch 5 "PluralBranches$Reader" D (none) "branch" []) (hP : ∀ (post : Option Nat → zM → Prop) (xp : Nat → zM → Prop) (k n : Nat) (o : Nat) (M : zM), P post xp k n o M → zMet l D yX10_parts (ws_ yX10_parts cX10_parts 2 (some (.object "PluralBranches$Parts"))) (rm_X10_parts d k n) k n [.ref o] M zR post xp) : ∀ {H : Heap} {locs : List Loc} {cells slots : Nat} {ls : Array Slot} (k : Nat) (n : Nat) (x1 : Option Nat) (x2 : Int32) (y0 : Option Nat) (y1 : Option Nat) (y2 : Int32) (M : zM), cells + k ≤ K → slots + n ≤ N → zS D M H locs → lv_has ls 5 [(0, .ref o), (1, va_rf x1), (2, .int x2)] → wp_X10_branch_L73 D P post xp o k n x1 x2 y0 y1 y2 M → W p l e (rm_X10_branch d K N) s m args below meth c H locs cells slots (vx_MQ below (zQ D zU post) (zX D xp) args s K N (zA D)) (F0 m 73 ls [.int y2, va_rf y1, va_rf y0]) := by
  have hC := hG.1
  have hx := hC.x
  have hb := hC.b
  have hown := hC.o
  have hts := hC.ts
  have hlt := hG.2.2.2.2.2
  intro H locs cells slots ls k n x1 x2 y0 y1 y2 M hk hn hZ hl hw
  refine lv_iconst (v := 1) hx hb dX10_branch_73 (by decide) ?_
  refine lv_icmp_ne (tgt := 81) hx hb dX10_branch_74 (by decide) (fun c64 => ?_) (fun c64 => ?_)
  · replace hw := hw.1 c64
    refine lv_iconst (v := 0) hx hb dX10_branch_81 (by decide) ?_
    exact wk_X10_branch_L82 hG hP _ _ _ _ _ _ _ _ hk hn hZ (lv_sub hl [0, 1, 2] rfl) hw
  · replace hw := hw.2 c64
    refine lv_iconst (v := 1) hx hb dX10_branch_77 (by decide) ?_
    refine lv_goto (tgt := 82) hx hb dX10_branch_78 (by decide) ?_
    exact wk_X10_branch_L82 hG hP _ _ _ _ _ _ _ _ hk hn hZ (lv_sub hl [0, 1, 2] rfl) hw
def wp_X10_branch_L69 (D : zD) (P : (Option Nat → zM → Prop) → (Nat → zM → Prop) → Nat → Nat → Nat → zM → Prop) (post : Unit → zM → Prop) (xp : Nat → zM → Prop) (o : Nat) (k : Nat) (n : Nat) (x1 : Option Nat) (x2 : Int32) (y0 : Option Nat) (y1 : Option Nat) (M : zM) : Prop :=
    ((zd x1 fun b65 => ((zis M b65 [18] ∧ wp_X21_kind D (fun r66 M => wp_X10_branch_L73 D P post xp o k n (some b65) x2 y0 y1 r66 M) b65 M) ∨ (zis M b65 [19] ∧ wp_X22_kind D (fun r69 M => wp_X10_branch_L73 D P post xp o k n (some b65) x2 y0 y1 r69 M) b65 M))))
set_option maxHeartbeats 4000000 in
set_option maxRecDepth 100000 in
theorem wk_X10_branch_L69 {p : Program} {l : Launch} {e : Env} {s : State} {m : MethodId} {args : Array Value} {below : List Frame} {meth : Method} {c : Code} {D : zD} {P : (Option Nat → zM → Prop) → (Nat → zM → Prop) → Nat → Nat → Nat → zM → Prop} {post : Unit → zM → Prop} {xp : Nat → zM → Prop} {K N : Nat} {d : Nat} {o : Nat} (hG : zGx p l s m args meth c cX10_branch 5 "PluralBranches$Reader" D (none) "branch" []) (hP : ∀ (post : Option Nat → zM → Prop) (xp : Nat → zM → Prop) (k n : Nat) (o : Nat) (M : zM), P post xp k n o M → zMet l D yX10_parts (ws_ yX10_parts cX10_parts 2 (some (.object "PluralBranches$Parts"))) (rm_X10_parts d k n) k n [.ref o] M zR post xp) : ∀ {H : Heap} {locs : List Loc} {cells slots : Nat} {ls : Array Slot} (k : Nat) (n : Nat) (x1 : Option Nat) (x2 : Int32) (y0 : Option Nat) (y1 : Option Nat) (M : zM), cells + k ≤ K → slots + n ≤ N → zS D M H locs → lv_has ls 5 [(0, .ref o), (1, va_rf x1), (2, .int x2)] → wp_X10_branch_L69 D P post xp o k n x1 x2 y0 y1 M → W p l e (rm_X10_branch d K N) s m args below meth c H locs cells slots (vx_MQ below (zQ D zU post) (zX D xp) args s K N (zA D)) (F0 m 69 ls [va_rf y1, va_rf y0]) := by
  have hC := hG.1
  have hx := hC.x
  have hb := hC.b
  have hown := hC.o
  have hts := hC.ts
  have hlt := hG.2.2.2.2.2
  intro H locs cells slots ls k n x1 x2 y0 y1 M hk hn hZ hl hw
  refine z_aload_n hC dX10_branch_69 rfl (lv_at hl 1 rfl) ?_
  obtain ⟨b72, hr0, hw⟩ := hw
  subst hr0
  rcases hw with hw | hw
  · obtain ⟨⟨ci0, fs0, hci0, hM0⟩, hw⟩ := hw
    obtain ⟨C0, T0, N0, ty0, hc0, hsel0⟩ : ∃ (C0 : String) (T0 : u_T) (N0 : Nat) (ty0 : Nat → FieldType), zCls ci0 C0 T0 N0 ty0 ∧ Cond.selects C0 ⟨"PluralBranches$Choice", "kind", "()I"⟩ yX21_kind ∈ lw_all := (zal ⟨_, _, _, _, zc18, q857⟩ (za0) : ∀ ci ∈ [18], ∃ (C0 : String) (T0 : u_T) (N0 : Nat) (ty0 : Nat → FieldType), zCls ci C0 T0 N0 ty0 ∧ Cond.selects C0 ⟨"PluralBranches$Choice", "kind", "()I"⟩ yX21_kind ∈ lw_all) ci0 hci0
    refine z_callI hZ (vx_runU (As := []) (rest := [va_rf y1, va_rf y0]) hC.fix (w_X21_kind hlt hw) (va_cwA (owner := "PluralBranches$Choice") (x := ⟨"PluralBranches$Choice", "kind", "()I"⟩) 0 hts (lw_app (zal q851 (zal q853 (zal hsel0 (zal q858 (zal q100 za0))))) (lw_meth q859)) rfl rfl rfl (hC.nw q852 rfl) (by decide +kernel) ⟨(show 1 + 1 ≤ 9 + 5 * d by omega), (show 8 + (1 + 11) + (64) ≤ 237 + 113 * d by omega)⟩) (z_preV hC hZ hM0 hc0) rfl rfl hl.1 rfl (lv_room (Nat.le_trans (zrm1 (zcat _) (zrm1 (zcat _) zrm0)) (Nat.le_of_ble_eq_true rfl))) dX10_branch_70 ⟨(show cells + 0 ≤ K by omega), (show slots + 0 ≤ N by omega)⟩) (fun r73 M H locs hw1 hZ => ?_) (fun q M H locs ci fs E T9 N9 hw hZ hc1 hM1 hb1 => False.elim hw)
    replace hw := hw1
    clear hw1
    refine W.cs (cells' := cells) (slots' := slots) rfl rfl ?_
    exact wk_X10_branch_L73 hG hP _ _ _ _ _ _ _ _ hk hn hZ (lv_sub hl [0, 1, 2] rfl) hw
  · obtain ⟨⟨ci0, fs0, hci0, hM0⟩, hw⟩ := hw
    obtain ⟨C0, T0, N0, ty0, hc0, hsel0⟩ : ∃ (C0 : String) (T0 : u_T) (N0 : Nat) (ty0 : Nat → FieldType), zCls ci0 C0 T0 N0 ty0 ∧ Cond.selects C0 ⟨"PluralBranches$Choice", "kind", "()I"⟩ yX22_kind ∈ lw_all := (zal ⟨_, _, _, _, zc19, q854⟩ (za0) : ∀ ci ∈ [19], ∃ (C0 : String) (T0 : u_T) (N0 : Nat) (ty0 : Nat → FieldType), zCls ci C0 T0 N0 ty0 ∧ Cond.selects C0 ⟨"PluralBranches$Choice", "kind", "()I"⟩ yX22_kind ∈ lw_all) ci0 hci0
    refine z_callI hZ (vx_runU (As := []) (rest := [va_rf y1, va_rf y0]) hC.fix (w_X22_kind hlt hw) (va_cwA (owner := "PluralBranches$Choice") (x := ⟨"PluralBranches$Choice", "kind", "()I"⟩) 0 hts (lw_app (zal q851 (zal q853 (zal hsel0 (zal q855 (zal q101 za0))))) (lw_meth q856)) rfl rfl rfl (hC.nw q852 rfl) (by decide +kernel) ⟨(show 1 + 1 ≤ 9 + 5 * d by omega), (show 8 + (1 + 11) + (64) ≤ 237 + 113 * d by omega)⟩) (z_preV hC hZ hM0 hc0) rfl rfl hl.1 rfl (lv_room (Nat.le_trans (zrm1 (zcat _) (zrm1 (zcat _) zrm0)) (Nat.le_of_ble_eq_true rfl))) dX10_branch_70 ⟨(show cells + 0 ≤ K by omega), (show slots + 0 ≤ N by omega)⟩) (fun r76 M H locs hw1 hZ => ?_) (fun q M H locs ci fs E T9 N9 hw hZ hc1 hM1 hb1 => False.elim hw)
    replace hw := hw1
    clear hw1
    refine W.cs (cells' := cells) (slots' := slots) rfl rfl ?_
    exact wk_X10_branch_L73 hG hP _ _ _ _ _ _ _ _ hk hn hZ (lv_sub hl [0, 1, 2] rfl) hw
def wp_X10_branch_L58 (D : zD) (P : (Option Nat → zM → Prop) → (Nat → zM → Prop) → Nat → Nat → Nat → zM → Prop) (post : Unit → zM → Prop) (xp : Nat → zM → Prop) (o : Nat) (k : Nat) (n : Nat) (x1 : Option Nat) (x2 : Int32) (y0 : Option Nat) (y1 : Int32) (M : zM) : Prop :=
    ((¬ y1 = (1 : Int32) → wp_X10_branch_L69 D P post xp o k n x1 x2 y0 (some (D.2.2.2 (10 + 4))) M) ∧ (y1 = (1 : Int32) → wp_X10_branch_L69 D P post xp o k n x1 x2 y0 (some (D.2.2.2 (10 + 3))) M))
set_option maxHeartbeats 4000000 in
set_option maxRecDepth 100000 in
theorem wk_X10_branch_L58 {p : Program} {l : Launch} {e : Env} {s : State} {m : MethodId} {args : Array Value} {below : List Frame} {meth : Method} {c : Code} {D : zD} {P : (Option Nat → zM → Prop) → (Nat → zM → Prop) → Nat → Nat → Nat → zM → Prop} {post : Unit → zM → Prop} {xp : Nat → zM → Prop} {K N : Nat} {d : Nat} {o : Nat} (hG : zGx p l s m args meth c cX10_branch 5 "PluralBranches$Reader" D (none) "branch" []) (hP : ∀ (post : Option Nat → zM → Prop) (xp : Nat → zM → Prop) (k n : Nat) (o : Nat) (M : zM), P post xp k n o M → zMet l D yX10_parts (ws_ yX10_parts cX10_parts 2 (some (.object "PluralBranches$Parts"))) (rm_X10_parts d k n) k n [.ref o] M zR post xp) : ∀ {H : Heap} {locs : List Loc} {cells slots : Nat} {ls : Array Slot} (k : Nat) (n : Nat) (x1 : Option Nat) (x2 : Int32) (y0 : Option Nat) (y1 : Int32) (M : zM), cells + k ≤ K → slots + n ≤ N → zS D M H locs → lv_has ls 5 [(0, .ref o), (1, va_rf x1), (2, .int x2)] → wp_X10_branch_L58 D P post xp o k n x1 x2 y0 y1 M → W p l e (rm_X10_branch d K N) s m args below meth c H locs cells slots (vx_MQ below (zQ D zU post) (zX D xp) args s K N (zA D)) (F0 m 58 ls [.int y1, va_rf y0]) := by
  have hC := hG.1
  have hx := hC.x
  have hb := hC.b
  have hown := hC.o
  have hts := hC.ts
  have hlt := hG.2.2.2.2.2
  intro H locs cells slots ls k n x1 x2 y0 y1 M hk hn hZ hl hw
  refine lv_iconst (v := 1) hx hb dX10_branch_58 (by decide) ?_
  refine lv_icmp_ne (tgt := 67) hx hb dX10_branch_59 (by decide) (fun c80 => ?_) (fun c80 => ?_)
  · replace hw := hw.1 c80
    refine z_ldcS (i := 4) hC rfl dX10_branch_67 ?_
    exact wk_X10_branch_L69 hG hP _ _ _ _ _ _ _ hk hn hZ (lv_sub hl [0, 1, 2] rfl) hw
  · replace hw := hw.2 c80
    refine z_ldcS (i := 3) hC rfl dX10_branch_62 ?_
    refine lv_goto (tgt := 69) hx hb dX10_branch_64 (by decide) ?_
    exact wk_X10_branch_L69 hG hP _ _ _ _ _ _ _ hk hn hZ (lv_sub hl [0, 1, 2] rfl) hw
def wp_X10_branch_L53 (D : zD) (P : (Option Nat → zM → Prop) → (Nat → zM → Prop) → Nat → Nat → Nat → zM → Prop) (post : Unit → zM → Prop) (xp : Nat → zM → Prop) (o : Nat) (k : Nat) (n : Nat) (x1 : Option Nat) (x2 : Int32) (M : zM) : Prop :=
    ((zd x1 fun b81 => ((zis M b81 [18] ∧ wp_X21_kind D (fun r82 M => wp_X10_branch_L58 D P post xp o k n (some b81) x2 (some o) r82 M) b81 M) ∨ (zis M b81 [19] ∧ wp_X22_kind D (fun r85 M => wp_X10_branch_L58 D P post xp o k n (some b81) x2 (some o) r85 M) b81 M))))
set_option maxHeartbeats 4000000 in
set_option maxRecDepth 100000 in
theorem wk_X10_branch_L53 {p : Program} {l : Launch} {e : Env} {s : State} {m : MethodId} {args : Array Value} {below : List Frame} {meth : Method} {c : Code} {D : zD} {P : (Option Nat → zM → Prop) → (Nat → zM → Prop) → Nat → Nat → Nat → zM → Prop} {post : Unit → zM → Prop} {xp : Nat → zM → Prop} {K N : Nat} {d : Nat} {o : Nat} (hG : zGx p l s m args meth c cX10_branch 5 "PluralBranches$Reader" D (none) "branch" []) (hP : ∀ (post : Option Nat → zM → Prop) (xp : Nat → zM → Prop) (k n : Nat) (o : Nat) (M : zM), P post xp k n o M → zMet l D yX10_parts (ws_ yX10_parts cX10_parts 2 (some (.object "PluralBranches$Parts"))) (rm_X10_parts d k n) k n [.ref o] M zR post xp) : ∀ {H : Heap} {locs : List Loc} {cells slots : Nat} {ls : Array Slot} (k : Nat) (n : Nat) (x1 : Option Nat) (x2 : Int32) (M : zM), cells + k ≤ K → slots + n ≤ N → zS D M H locs → lv_has ls 5 [(0, .ref o), (1, va_rf x1), (2, .int x2)] → wp_X10_branch_L53 D P post xp o k n x1 x2 M → W p l e (rm_X10_branch d K N) s m args below meth c H locs cells slots (vx_MQ below (zQ D zU post) (zX D xp) args s K N (zA D)) (F0 m 53 ls []) := by
  have hC := hG.1
  have hx := hC.x
  have hb := hC.b
  have hown := hC.o
  have hts := hC.ts
  have hlt := hG.2.2.2.2.2
  intro H locs cells slots ls k n x1 x2 M hk hn hZ hl hw
  refine lv_aload_n hx hb dX10_branch_53 rfl (lv_at hl 0 rfl) ?_
  refine z_aload_n hC dX10_branch_54 rfl (lv_at hl 1 rfl) ?_
  obtain ⟨b88, hr0, hw⟩ := hw
  subst hr0
  rcases hw with hw | hw
  · obtain ⟨⟨ci0, fs0, hci0, hM0⟩, hw⟩ := hw
    obtain ⟨C0, T0, N0, ty0, hc0, hsel0⟩ : ∃ (C0 : String) (T0 : u_T) (N0 : Nat) (ty0 : Nat → FieldType), zCls ci0 C0 T0 N0 ty0 ∧ Cond.selects C0 ⟨"PluralBranches$Choice", "kind", "()I"⟩ yX21_kind ∈ lw_all := (zal ⟨_, _, _, _, zc18, q857⟩ (za0) : ∀ ci ∈ [18], ∃ (C0 : String) (T0 : u_T) (N0 : Nat) (ty0 : Nat → FieldType), zCls ci C0 T0 N0 ty0 ∧ Cond.selects C0 ⟨"PluralBranches$Choice", "kind", "()I"⟩ yX21_kind ∈ lw_all) ci0 hci0
    refine z_callI hZ (vx_runU (As := []) (rest := [.ref o]) hC.fix (w_X21_kind hlt hw) (va_cwA (owner := "PluralBranches$Choice") (x := ⟨"PluralBranches$Choice", "kind", "()I"⟩) 0 hts (lw_app (zal q851 (zal q853 (zal hsel0 (zal q858 (zal q100 za0))))) (lw_meth q859)) rfl rfl rfl (hC.nw q852 rfl) (by decide +kernel) ⟨(show 1 + 1 ≤ 9 + 5 * d by omega), (show 8 + (1 + 11) + (64) ≤ 237 + 113 * d by omega)⟩) (z_preV hC hZ hM0 hc0) rfl rfl hl.1 rfl (lv_room (Nat.le_trans (zrm1 rfl zrm0) (Nat.le_of_ble_eq_true rfl))) dX10_branch_55 ⟨(show cells + 0 ≤ K by omega), (show slots + 0 ≤ N by omega)⟩) (fun r89 M H locs hw1 hZ => ?_) (fun q M H locs ci fs E T9 N9 hw hZ hc1 hM1 hb1 => False.elim hw)
    replace hw := hw1
    clear hw1
    refine W.cs (cells' := cells) (slots' := slots) rfl rfl ?_
    exact wk_X10_branch_L58 hG hP _ _ _ _ _ _ _ hk hn hZ (lv_sub hl [0, 1, 2] rfl) hw
  · obtain ⟨⟨ci0, fs0, hci0, hM0⟩, hw⟩ := hw
    obtain ⟨C0, T0, N0, ty0, hc0, hsel0⟩ : ∃ (C0 : String) (T0 : u_T) (N0 : Nat) (ty0 : Nat → FieldType), zCls ci0 C0 T0 N0 ty0 ∧ Cond.selects C0 ⟨"PluralBranches$Choice", "kind", "()I"⟩ yX22_kind ∈ lw_all := (zal ⟨_, _, _, _, zc19, q854⟩ (za0) : ∀ ci ∈ [19], ∃ (C0 : String) (T0 : u_T) (N0 : Nat) (ty0 : Nat → FieldType), zCls ci C0 T0 N0 ty0 ∧ Cond.selects C0 ⟨"PluralBranches$Choice", "kind", "()I"⟩ yX22_kind ∈ lw_all) ci0 hci0
    refine z_callI hZ (vx_runU (As := []) (rest := [.ref o]) hC.fix (w_X22_kind hlt hw) (va_cwA (owner := "PluralBranches$Choice") (x := ⟨"PluralBranches$Choice", "kind", "()I"⟩) 0 hts (lw_app (zal q851 (zal q853 (zal hsel0 (zal q855 (zal q101 za0))))) (lw_meth q856)) rfl rfl rfl (hC.nw q852 rfl) (by decide +kernel) ⟨(show 1 + 1 ≤ 9 + 5 * d by omega), (show 8 + (1 + 11) + (64) ≤ 237 + 113 * d by omega)⟩) (z_preV hC hZ hM0 hc0) rfl rfl hl.1 rfl (lv_room (Nat.le_trans (zrm1 rfl zrm0) (Nat.le_of_ble_eq_true rfl))) dX10_branch_55 ⟨(show cells + 0 ≤ K by omega), (show slots + 0 ≤ N by omega)⟩) (fun r92 M H locs hw1 hZ => ?_) (fun q M H locs ci fs E T9 N9 hw hZ hc1 hM1 hb1 => False.elim hw)
    replace hw := hw1
    clear hw1
    refine W.cs (cells' := cells) (slots' := slots) rfl rfl ?_
    exact wk_X10_branch_L58 hG hP _ _ _ _ _ _ _ hk hn hZ (lv_sub hl [0, 1, 2] rfl) hw
def wp_X10_branch_L30 (D : zD) (P : (Option Nat → zM → Prop) → (Nat → zM → Prop) → Nat → Nat → Nat → zM → Prop) (post : Unit → zM → Prop) (xp : Nat → zM → Prop) (o : Nat) (k : Nat) (n : Nat) (x1 : Option Nat) (x2 : Int32) (y0 : Int32) (M : zM) : Prop :=
    ((¬ y0 = (1 : Int32) → wp_X10_branch_L53 D P post xp o k n x1 x2 M) ∧ (y0 = (1 : Int32) → ((zis M o [9] ∧ wp_X10_takes D (fun r95 M => ((r95 = 0 → wp_X10_branch_L53 D P post xp o k n x1 x2 M) ∧ (¬ r95 = 0 → ((zis M o [9] ∧ (∃ k99 n100, k99 ≤ k ∧ n100 ≤ n ∧ wp_X10_number D (fun r98 M => wp_X10_branch_L85 D P post xp o (k - k99) (n - n100) x1 x2 ((10 : Int32) + r98) M) xp k99 n100 o M)))))) o (61 : Int32) M))))
set_option maxHeartbeats 4000000 in
set_option maxRecDepth 100000 in
theorem wk_X10_branch_L30 {p : Program} {l : Launch} {e : Env} {s : State} {m : MethodId} {args : Array Value} {below : List Frame} {meth : Method} {c : Code} {D : zD} {P : (Option Nat → zM → Prop) → (Nat → zM → Prop) → Nat → Nat → Nat → zM → Prop} {post : Unit → zM → Prop} {xp : Nat → zM → Prop} {K N : Nat} {d : Nat} {o : Nat} (hG : zGx p l s m args meth c cX10_branch 5 "PluralBranches$Reader" D (none) "branch" []) (hP : ∀ (post : Option Nat → zM → Prop) (xp : Nat → zM → Prop) (k n : Nat) (o : Nat) (M : zM), P post xp k n o M → zMet l D yX10_parts (ws_ yX10_parts cX10_parts 2 (some (.object "PluralBranches$Parts"))) (rm_X10_parts d k n) k n [.ref o] M zR post xp) : ∀ {H : Heap} {locs : List Loc} {cells slots : Nat} {ls : Array Slot} (k : Nat) (n : Nat) (x1 : Option Nat) (x2 : Int32) (y0 : Int32) (M : zM), cells + k ≤ K → slots + n ≤ N → zS D M H locs → lv_has ls 5 [(0, .ref o), (1, va_rf x1), (2, .int x2)] → wp_X10_branch_L30 D P post xp o k n x1 x2 y0 M → W p l e (rm_X10_branch d K N) s m args below meth c H locs cells slots (vx_MQ below (zQ D zU post) (zX D xp) args s K N (zA D)) (F0 m 30 ls [.int y0]) := by
  have hC := hG.1
  have hx := hC.x
  have hb := hC.b
  have hown := hC.o
  have hts := hC.ts
  have hlt := hG.2.2.2.2.2
  intro H locs cells slots ls k n x1 x2 y0 M hk hn hZ hl hw
  refine lv_iconst (v := 1) hx hb dX10_branch_30 (by decide) ?_
  refine lv_icmp_ne (tgt := 53) hx hb dX10_branch_31 (by decide) (fun c110 => ?_) (fun c110 => ?_)
  · replace hw := hw.1 c110
    exact wk_X10_branch_L53 hG hP _ _ _ _ _ hk hn hZ (lv_sub hl [0, 1, 2] rfl) hw
  · replace hw := hw.2 c110
    refine lv_aload_n hx hb dX10_branch_34 rfl (lv_at hl 0 rfl) ?_
    refine lv_bipush (v := 61) hx hb dX10_branch_35 (by decide) ?_
    obtain ⟨⟨ci0, fs0, hci0, hM0⟩, hw⟩ := hw
    obtain rfl : ci0 = 9 := List.mem_singleton.mp hci0
    refine z_callI hZ (vx_runV (As := [.int (61 : Int32)]) (rest := []) hC.fix (w_X10_takes hlt hw) (cwV 1 hts (lw_V q751 q753 qs15 q86 q754) rfl rfl rfl ⟨rfl, dd_X10_takes⟩ ⟨(show 2 + 1 ≤ 9 + 5 * d by omega), (show 8 + (3 + 11) + (84) ≤ 237 + 113 * d by omega)⟩) (z_preV hC hZ hM0 zc9) rfl rfl hl.1 rfl (lv_room (Nat.zero_le _)) dX10_branch_37 ⟨(show cells + 0 ≤ K by omega), (show slots + 0 ≤ N by omega)⟩) (fun r103 M H locs hw1 hZ => ?_) (fun q M H locs ci fs E T9 N9 hw hZ hc1 hM1 hb1 => False.elim hw)
    replace hw := hw1
    clear hw1
    refine W.cs (cells' := cells) (slots' := slots) rfl rfl ?_
    refine lv_if_eq (tgt := 53) hx hb dX10_branch_40 (by decide) (fun c109 => ?_) (fun c109 => ?_)
    · replace hw := hw.1 c109
      exact wk_X10_branch_L53 hG hP _ _ _ _ _ hk hn hZ (lv_sub hl [0, 1, 2] rfl) hw
    · replace hw := hw.2 c109
      refine lv_bipush (v := 10) hx hb dX10_branch_43 (by decide) ?_
      refine lv_aload_n hx hb dX10_branch_45 rfl (lv_at hl 0 rfl) ?_
      obtain ⟨⟨ci0, fs0, hci0, hM0⟩, hw⟩ := hw
      obtain ⟨k107, n108, hk1, hn1, hw⟩ := hw
      obtain rfl : ci0 = 9 := List.mem_singleton.mp hci0
      refine z_callI hZ (vx_runV (As := []) (rest := [.int (10 : Int32)]) hC.fix (w_X10_number hlt hw) (cwV 0 hts (lw_V q860 q862 qs20 q86 q863) rfl rfl rfl ⟨rfl, dd_X10_number⟩ ⟨(show 7 + 1 ≤ 9 + 5 * d by omega), (show 8 + (3 + 11) + (198) ≤ 237 + 113 * d by omega)⟩) (z_preV hC hZ hM0 zc9) rfl rfl hl.1 rfl (lv_room (Nat.le_trans (zrm1 rfl zrm0) (Nat.le_of_ble_eq_true rfl))) dX10_branch_46 ⟨(show cells + k107 ≤ K by omega), (show slots + n108 ≤ N by omega)⟩) (fun r106 M H locs hw1 hZ => ?_) (fun q M H locs ci fs E T9 N9 hw1 hZ hc1 hM1 hb1 => ?_)
      · replace hw := hw1
        clear hw1
        have hk : cells + k107 + (k - k107) ≤ K := by omega
        have hn : slots + n108 + (n - n108) ≤ N := by omega
        generalize cells + k107 = cells at hk ⊢
        generalize slots + n108 = slots at hn ⊢
        clear hk1 hn1
        refine lv_iadd hx hb dX10_branch_49 ?_
        refine lv_goto (tgt := 85) hx hb dX10_branch_50 (by decide) ?_
        exact wk_X10_branch_L85 hG hP _ _ _ _ _ _ hk hn hZ (lv_sub hl [0, 1, 2] rfl) hw
      · replace hw := hw1
        clear hw1
        exact z_out hG hZ hM1 hb1 hc1 za0 (by omega) (by omega) hw
def wp_X10_branch_L23 (D : zD) (P : (Option Nat → zM → Prop) → (Nat → zM → Prop) → Nat → Nat → Nat → zM → Prop) (post : Unit → zM → Prop) (xp : Nat → zM → Prop) (o : Nat) (k : Nat) (n : Nat) (x1 : Option Nat) (x2 : Int32) (y0 : Option Nat) (y1 : Int32) (M : zM) : Prop :=
    ((zd y0 fun b111 => (zis M b111 [9] ∧ (∃ k113 n114, k113 ≤ k ∧ n114 ≤ n ∧ wp_X10_must D (fun _ M => ((zd x1 fun b115 => ((zis M b115 [18] ∧ wp_X21_kind D (fun r116 M => wp_X10_branch_L30 D P post xp o (k - k113) (n - n114) (some b115) x2 r116 M) b115 M) ∨ (zis M b115 [19] ∧ wp_X22_kind D (fun r119 M => wp_X10_branch_L30 D P post xp o (k - k113) (n - n114) (some b115) x2 r119 M) b115 M))))) xp k113 n114 b111 y1 M))))
set_option maxHeartbeats 4000000 in
set_option maxRecDepth 100000 in
theorem wk_X10_branch_L23 {p : Program} {l : Launch} {e : Env} {s : State} {m : MethodId} {args : Array Value} {below : List Frame} {meth : Method} {c : Code} {D : zD} {P : (Option Nat → zM → Prop) → (Nat → zM → Prop) → Nat → Nat → Nat → zM → Prop} {post : Unit → zM → Prop} {xp : Nat → zM → Prop} {K N : Nat} {d : Nat} {o : Nat} (hG : zGx p l s m args meth c cX10_branch 5 "PluralBranches$Reader" D (none) "branch" []) (hP : ∀ (post : Option Nat → zM → Prop) (xp : Nat → zM → Prop) (k n : Nat) (o : Nat) (M : zM), P post xp k n o M → zMet l D yX10_parts (ws_ yX10_parts cX10_parts 2 (some (.object "PluralBranches$Parts"))) (rm_X10_parts d k n) k n [.ref o] M zR post xp) : ∀ {H : Heap} {locs : List Loc} {cells slots : Nat} {ls : Array Slot} (k : Nat) (n : Nat) (x1 : Option Nat) (x2 : Int32) (y0 : Option Nat) (y1 : Int32) (M : zM), cells + k ≤ K → slots + n ≤ N → zS D M H locs → lv_has ls 5 [(0, .ref o), (1, va_rf x1), (2, .int x2)] → wp_X10_branch_L23 D P post xp o k n x1 x2 y0 y1 M → W p l e (rm_X10_branch d K N) s m args below meth c H locs cells slots (vx_MQ below (zQ D zU post) (zX D xp) args s K N (zA D)) (F0 m 23 ls [.int y1, va_rf y0]) := by
  have hC := hG.1
  have hx := hC.x
  have hb := hC.b
  have hown := hC.o
  have hts := hC.ts
  have hlt := hG.2.2.2.2.2
  intro H locs cells slots ls k n x1 x2 y0 y1 M hk hn hZ hl hw
  obtain ⟨b122, hr0, hw⟩ := hw
  subst hr0
  obtain ⟨⟨ci0, fs0, hci0, hM0⟩, hw⟩ := hw
  obtain ⟨k124, n125, hk1, hn1, hw⟩ := hw
  obtain rfl : ci0 = 9 := List.mem_singleton.mp hci0
  refine z_callU hZ (vx_runV (As := [.int y1]) (rest := []) hC.fix (w_X10_must hlt hw) (cwV 1 hts (lw_V q640 q642 qs9 q86 q643) rfl rfl rfl ⟨rfl, dd_X10_must⟩ ⟨(show 6 + 1 ≤ 9 + 5 * d by omega), (show 8 + (2 + 11) + (177) ≤ 237 + 113 * d by omega)⟩) (z_preV hC hZ hM0 zc9) rfl rfl hl.1 rfl (lv_room (Nat.zero_le _)) dX10_branch_23 ⟨(show cells + k124 ≤ K by omega), (show slots + n125 ≤ N by omega)⟩) (fun r123 M H locs hw1 hZ => ?_) (fun q M H locs ci fs E T9 N9 hw1 hZ hc1 hM1 hb1 => ?_)
  · replace hw := hw1
    clear hw1
    have hk : cells + k124 + (k - k124) ≤ K := by omega
    have hn : slots + n125 + (n - n125) ≤ N := by omega
    generalize cells + k124 = cells at hk ⊢
    generalize slots + n125 = slots at hn ⊢
    clear hk1 hn1
    refine z_aload_n hC dX10_branch_26 rfl (lv_at hl 1 rfl) ?_
    obtain ⟨b126, hr0, hw⟩ := hw
    subst hr0
    rcases hw with hw | hw
    · obtain ⟨⟨ci0, fs0, hci0, hM0⟩, hw⟩ := hw
      obtain ⟨C0, T0, N0, ty0, hc0, hsel0⟩ : ∃ (C0 : String) (T0 : u_T) (N0 : Nat) (ty0 : Nat → FieldType), zCls ci0 C0 T0 N0 ty0 ∧ Cond.selects C0 ⟨"PluralBranches$Choice", "kind", "()I"⟩ yX21_kind ∈ lw_all := (zal ⟨_, _, _, _, zc18, q857⟩ (za0) : ∀ ci ∈ [18], ∃ (C0 : String) (T0 : u_T) (N0 : Nat) (ty0 : Nat → FieldType), zCls ci C0 T0 N0 ty0 ∧ Cond.selects C0 ⟨"PluralBranches$Choice", "kind", "()I"⟩ yX21_kind ∈ lw_all) ci0 hci0
      refine z_callI hZ (vx_runU (As := []) (rest := []) hC.fix (w_X21_kind hlt hw) (va_cwA (owner := "PluralBranches$Choice") (x := ⟨"PluralBranches$Choice", "kind", "()I"⟩) 0 hts (lw_app (zal q851 (zal q853 (zal hsel0 (zal q858 (zal q100 za0))))) (lw_meth q859)) rfl rfl rfl (hC.nw q852 rfl) (by decide +kernel) ⟨(show 1 + 1 ≤ 9 + 5 * d by omega), (show 8 + (1 + 11) + (64) ≤ 237 + 113 * d by omega)⟩) (z_preV hC hZ hM0 hc0) rfl rfl hl.1 rfl (lv_room (Nat.zero_le _)) dX10_branch_27 ⟨(show cells + 0 ≤ K by omega), (show slots + 0 ≤ N by omega)⟩) (fun r127 M H locs hw1 hZ => ?_) (fun q M H locs ci fs E T9 N9 hw hZ hc1 hM1 hb1 => False.elim hw)
      replace hw := hw1
      clear hw1
      refine W.cs (cells' := cells) (slots' := slots) rfl rfl ?_
      exact wk_X10_branch_L30 hG hP _ _ _ _ _ _ hk hn hZ (lv_sub hl [0, 1, 2] rfl) hw
    · obtain ⟨⟨ci0, fs0, hci0, hM0⟩, hw⟩ := hw
      obtain ⟨C0, T0, N0, ty0, hc0, hsel0⟩ : ∃ (C0 : String) (T0 : u_T) (N0 : Nat) (ty0 : Nat → FieldType), zCls ci0 C0 T0 N0 ty0 ∧ Cond.selects C0 ⟨"PluralBranches$Choice", "kind", "()I"⟩ yX22_kind ∈ lw_all := (zal ⟨_, _, _, _, zc19, q854⟩ (za0) : ∀ ci ∈ [19], ∃ (C0 : String) (T0 : u_T) (N0 : Nat) (ty0 : Nat → FieldType), zCls ci C0 T0 N0 ty0 ∧ Cond.selects C0 ⟨"PluralBranches$Choice", "kind", "()I"⟩ yX22_kind ∈ lw_all) ci0 hci0
      refine z_callI hZ (vx_runU (As := []) (rest := []) hC.fix (w_X22_kind hlt hw) (va_cwA (owner := "PluralBranches$Choice") (x := ⟨"PluralBranches$Choice", "kind", "()I"⟩) 0 hts (lw_app (zal q851 (zal q853 (zal hsel0 (zal q855 (zal q101 za0))))) (lw_meth q856)) rfl rfl rfl (hC.nw q852 rfl) (by decide +kernel) ⟨(show 1 + 1 ≤ 9 + 5 * d by omega), (show 8 + (1 + 11) + (64) ≤ 237 + 113 * d by omega)⟩) (z_preV hC hZ hM0 hc0) rfl rfl hl.1 rfl (lv_room (Nat.zero_le _)) dX10_branch_27 ⟨(show cells + 0 ≤ K by omega), (show slots + 0 ≤ N by omega)⟩) (fun r130 M H locs hw1 hZ => ?_) (fun q M H locs ci fs E T9 N9 hw hZ hc1 hM1 hb1 => False.elim hw)
      replace hw := hw1
      clear hw1
      refine W.cs (cells' := cells) (slots' := slots) rfl rfl ?_
      exact wk_X10_branch_L30 hG hP _ _ _ _ _ _ hk hn hZ (lv_sub hl [0, 1, 2] rfl) hw
  · replace hw := hw1
    clear hw1
    exact z_out hG hZ hM1 hb1 hc1 za0 (by omega) (by omega) hw
def wp_X10_branch (D : zD) (P : (Option Nat → zM → Prop) → (Nat → zM → Prop) → Nat → Nat → Nat → zM → Prop) (post : Unit → zM → Prop) (xp : Nat → zM → Prop) (k : Nat) (n : Nat) (o : Nat) (a0 : Option Nat) (M : zM) : Prop :=
    (zgI M o 9 1 fun g133 => ((zd a0 fun b134 => zgRm M b134 [(18, 0), (19, 0)] fun g135 => ((zd g135 fun b136 => (zis M b136 [26] ∧ wp_J3_size D (fun r137 M => (((10 : Int32) ≤ r137 → wp_X10_branch_L23 D P post xp o k n (some b134) g133 (some o) (0 : Int32) M) ∧ (¬ (10 : Int32) ≤ r137 → wp_X10_branch_L23 D P post xp o k n (some b134) g133 (some o) (1 : Int32) M))) b136 M))))))
set_option maxHeartbeats 4000000 in
set_option maxRecDepth 100000 in
theorem w_X10_branch {l : Launch} {D : zD} {post : Unit → zM → Prop} {xp : Nat → zM → Prop} {P : (Option Nat → zM → Prop) → (Nat → zM → Prop) → Nat → Nat → Nat → zM → Prop} {d : Nat} (hlt : l.stackTraces = false) (hP : ∀ (post : Option Nat → zM → Prop) (xp : Nat → zM → Prop) (k n : Nat) (o : Nat) (M : zM), P post xp k n o M → zMet l D yX10_parts (ws_ yX10_parts cX10_parts 2 (some (.object "PluralBranches$Parts"))) (rm_X10_parts d k n) k n [.ref o] M zR post xp) {k : Nat} {n : Nat} {o : Nat} {a0 : Option Nat} {M : zM} (hw : wp_X10_branch D P post xp k n o a0 M) : zMet l D yX10_branch (ws_ yX10_branch cX10_branch 5 (none)) (rm_X10_branch d k n) k n [.ref o, va_rf a0] M zU post xp := by
  unfold wp_X10_branch at hw
  have hlv : lv_args 0 [.ref o, va_rf a0] = [(0, .ref o), (1, va_rf a0)] := (zargs1 rfl (zargs1 (zcat _) rfl))
  refine z_ofW hlt (by decide) (Nat.le_trans (zsl1 rfl (zsl1 (zcat _) (Nat.le_refl 0 : (lg_sl []).length ≤ 0))) (Nat.le_of_ble_eq_true rfl)) hlv ?_
  intro p e s m args below meth c ls hG hZ hl
  have hC := hG.1
  have hx := hC.x
  have hb := hC.b
  have hown := hC.o
  have hts := hC.ts
  have hlt := hG.2.2.2.2.2
  obtain ⟨cells, hce⟩ : ∃ z : Nat, z = 0 := ⟨0, rfl⟩
  obtain ⟨slots, hsl⟩ : ∃ z : Nat, z = 0 := ⟨0, rfl⟩
  refine W.cs (cells' := cells) (slots' := slots) hce.symm hsl.symm ?_
  have hk : cells + k ≤ k := by omega
  have hn : slots + n ≤ n := by omega
  clear hce hsl
  refine lv_aload_n hx hb dX10_branch_0 rfl (lv_at hl 0 rfl) ?_
  obtain ⟨fs0, g141, hM0, hx0, hw⟩ := hw
  refine z_get hC hZ hM0 zc9 1 (by decide) q570 (fun _ h9 => h9) hx0 dX10_branch_1 ?_
  refine lv_istore_n (i := 2) (lv' := [(2, .int g141), (0, .ref o), (1, va_rf a0)]) hx hb dX10_branch_4 rfl hl (by decide) (zfc rfl (zfk rfl (zfk (zfa rfl) rfl))) (fun ls hl1 => ?_)
  replace hl := hl1
  clear hl1
  refine lv_aload_n hx hb dX10_branch_5 rfl (lv_at hl 1 rfl) ?_
  refine z_aload_n hC dX10_branch_6 rfl (lv_at hl 2 rfl) ?_
  obtain ⟨b142, hr0, hw⟩ := hw
  subst hr0
  obtain ⟨q0, fs0, g143, hL0, hM0, hx0, hw⟩ := hw
  refine z_getm hC hZ hM0 (L := [(18, 0), (19, 0)]) (ref := "PluralBranches$Choice") (index := 186) (zal (⟨_, _, _, _, zc18, by decide, q826, (fun _ h9 => h9)⟩) (zal (⟨_, _, _, _, zc19, by decide, q826, (fun _ h9 => h9)⟩) (za0))) hL0 hx0 dX10_branch_7 ?_
  obtain ⟨b144, hr0, hw⟩ := hw
  subst hr0
  obtain ⟨⟨ci0, fs0, hci0, hM0⟩, hw⟩ := hw
  obtain rfl : ci0 = 26 := List.mem_singleton.mp hci0
  refine z_callI hZ (vx_runV (As := []) (rest := [.ref o]) hC.fix (w_J3_size hlt hw) (cwV 0 hts (lw_V q809 q464 q465 q74 q466) rfl rfl rfl ⟨rfl, dd_J3_size⟩ ⟨(show 1 + 1 ≤ 9 + 5 * d by omega), (show 8 + (1 + 11) + (64) ≤ 237 + 113 * d by omega)⟩) (z_preV hC hZ hM0 zc26) rfl rfl hl.1 rfl (lv_room (Nat.le_trans (zrm1 rfl zrm0) (Nat.le_of_ble_eq_true rfl))) dX10_branch_10 ⟨(show cells + 0 ≤ k by omega), (show slots + 0 ≤ n by omega)⟩) (fun r145 M H locs hw1 hZ => ?_) (fun q M H locs ci fs E T9 N9 hw hZ hc1 hM1 hb1 => False.elim hw)
  replace hw := hw1
  clear hw1
  refine W.cs (cells' := cells) (slots' := slots) rfl rfl ?_
  refine lv_bipush (v := 10) hx hb dX10_branch_13 (by decide) ?_
  refine lv_icmp_ge (tgt := 22) hx hb dX10_branch_15 (by decide) (fun c148 => ?_) (fun c148 => ?_)
  · replace hw := hw.1 c148
    refine lv_iconst (v := 0) hx hb dX10_branch_22 (by decide) ?_
    exact wk_X10_branch_L23 hG hP _ _ _ _ _ _ _ hk hn hZ (lv_sub hl [1, 2, 0] rfl) hw
  · replace hw := hw.2 c148
    refine lv_iconst (v := 1) hx hb dX10_branch_18 (by decide) ?_
    refine lv_goto (tgt := 23) hx hb dX10_branch_19 (by decide) ?_
    exact wk_X10_branch_L23 hG hP _ _ _ _ _ _ _ hk hn hZ (lv_sub hl [1, 2, 0] rfl) hw
def wp_X10_choice_L223 (D : zD) (P : (Option Nat → zM → Prop) → (Nat → zM → Prop) → Nat → Nat → Nat → zM → Prop) (post : Option Nat → zM → Prop) (xp : Nat → zM → Prop) (o : Nat) (k : Nat) (n : Nat) (x4 : Option Nat) (y0 : Option Nat) (y1 : Int32) (y2 : Int32) (M : zM) : Prop :=
    ((zd y0 fun b1 => zp D M b1 9 3 (.int (y1 - y2)) fun M => post x4 M))
set_option maxHeartbeats 4000000 in
set_option maxRecDepth 100000 in
theorem wk_X10_choice_L223 {p : Program} {l : Launch} {e : Env} {s : State} {m : MethodId} {args : Array Value} {below : List Frame} {meth : Method} {c : Code} {D : zD} {P : (Option Nat → zM → Prop) → (Nat → zM → Prop) → Nat → Nat → Nat → zM → Prop} {post : Option Nat → zM → Prop} {xp : Nat → zM → Prop} {K N : Nat} {d : Nat} {o : Nat} (hG : zGx p l s m args meth c cX10_choice 5 "PluralBranches$Reader" D (some (.object "PluralBranches$Choice")) "choice" []) (hP : ∀ (post : Option Nat → zM → Prop) (xp : Nat → zM → Prop) (k n : Nat) (o : Nat) (M : zM), P post xp k n o M → zMet l D yX10_parts (ws_ yX10_parts cX10_parts 2 (some (.object "PluralBranches$Parts"))) (rm_X10_parts d k n) k n [.ref o] M zR post xp) : ∀ {H : Heap} {locs : List Loc} {cells slots : Nat} {ls : Array Slot} (k : Nat) (n : Nat) (x4 : Option Nat) (y0 : Option Nat) (y1 : Int32) (y2 : Int32) (M : zM), cells + k ≤ K → slots + n ≤ N → zS D M H locs → lv_has ls 5 [(4, va_rf x4)] → wp_X10_choice_L223 D P post xp o k n x4 y0 y1 y2 M → W p l e (rm_X10_choice d K N) s m args below meth c H locs cells slots (vx_MQ below (zQ D zR post) (zX D xp) args s K N (zA D)) (F0 m 223 ls [.int y2, .int y1, va_rf y0]) := by
  have hC := hG.1
  have hx := hC.x
  have hb := hC.b
  have hown := hC.o
  have hts := hC.ts
  have hlt := hG.2.2.2.2.2
  intro H locs cells slots ls k n x4 y0 y1 y2 M hk hn hZ hl hw
  refine lv_isub hx hb dX10_choice_223 ?_
  obtain ⟨b3, hr0, hw⟩ := hw
  subst hr0
  obtain ⟨fs0, hM0, hb0, hk0, hw⟩ := hw
  refine z_put hC hZ hM0 hb0 zc9 3 (by decide) q572 (fun _ h9 => h9) (by decide) rfl rfl hk0 dX10_choice_224 (fun H locs hZ => ?_)
  generalize zu M _ _ = M at hw hZ
  refine z_aload hC dX10_choice_227 (lv_at hl 0 rfl) ?_
  exact z_aret (r := x4) hG (Or.inl ⟨_, rfl⟩) hZ (by omega) (by omega) hw dX10_choice_229
def wp_X10_choice_L187 (D : zD) (P : (Option Nat → zM → Prop) → (Nat → zM → Prop) → Nat → Nat → Nat → zM → Prop) (post : Option Nat → zM → Prop) (xp : Nat → zM → Prop) (o : Nat) (k : Nat) (n : Nat) (x2 : Int32) (x4 : Option Nat) (M : zM) : Prop :=
    (zgI M o 9 1 fun g5 => (zp D M o 9 1 (.int (g5 + (1 : Int32))) fun M => (zgI M o 9 2 fun g6 => (zp D M o 9 2 (.int (g6 - (1 : Int32))) fun M => (zgI M o 9 3 fun g7 => ((¬ x2 = (112 : Int32) → wp_X10_choice_L223 D P post xp o k n x4 (some o) g7 (0 : Int32) M) ∧ (x2 = (112 : Int32) → wp_X10_choice_L223 D P post xp o k n x4 (some o) g7 (1 : Int32) M)))))))
set_option maxHeartbeats 4000000 in
set_option maxRecDepth 100000 in
theorem wk_X10_choice_L187 {p : Program} {l : Launch} {e : Env} {s : State} {m : MethodId} {args : Array Value} {below : List Frame} {meth : Method} {c : Code} {D : zD} {P : (Option Nat → zM → Prop) → (Nat → zM → Prop) → Nat → Nat → Nat → zM → Prop} {post : Option Nat → zM → Prop} {xp : Nat → zM → Prop} {K N : Nat} {d : Nat} {o : Nat} (hG : zGx p l s m args meth c cX10_choice 5 "PluralBranches$Reader" D (some (.object "PluralBranches$Choice")) "choice" []) (hP : ∀ (post : Option Nat → zM → Prop) (xp : Nat → zM → Prop) (k n : Nat) (o : Nat) (M : zM), P post xp k n o M → zMet l D yX10_parts (ws_ yX10_parts cX10_parts 2 (some (.object "PluralBranches$Parts"))) (rm_X10_parts d k n) k n [.ref o] M zR post xp) : ∀ {H : Heap} {locs : List Loc} {cells slots : Nat} {ls : Array Slot} (k : Nat) (n : Nat) (x2 : Int32) (x4 : Option Nat) (M : zM), cells + k ≤ K → slots + n ≤ N → zS D M H locs → lv_has ls 5 [(0, .ref o), (2, .int x2), (4, va_rf x4)] → wp_X10_choice_L187 D P post xp o k n x2 x4 M → W p l e (rm_X10_choice d K N) s m args below meth c H locs cells slots (vx_MQ below (zQ D zR post) (zX D xp) args s K N (zA D)) (F0 m 187 ls []) := by
  have hC := hG.1
  have hx := hC.x
  have hb := hC.b
  have hown := hC.o
  have hts := hC.ts
  have hlt := hG.2.2.2.2.2
  intro H locs cells slots ls k n x2 x4 M hk hn hZ hl hw
  refine lv_aload_n hx hb dX10_choice_187 rfl (lv_at hl 0 rfl) ?_
  refine lv_dup hx hb dX10_choice_188 rfl ?_
  obtain ⟨fs0, g11, hM0, hx0, hw⟩ := hw
  refine z_get hC hZ hM0 zc9 1 (by decide) q570 (fun _ h9 => h9) hx0 dX10_choice_189 ?_
  refine lv_iconst (v := 1) hx hb dX10_choice_192 (by decide) ?_
  refine lv_iadd hx hb dX10_choice_193 ?_
  obtain ⟨fs0, hM0, hb0, hk0, hw⟩ := hw
  refine z_put hC hZ hM0 hb0 zc9 1 (by decide) q570 (fun _ h9 => h9) (by decide) rfl rfl hk0 dX10_choice_194 (fun H locs hZ => ?_)
  generalize zu M _ _ = M at hw hZ
  refine lv_aload_n hx hb dX10_choice_197 rfl (lv_at hl 0 rfl) ?_
  refine lv_dup hx hb dX10_choice_198 rfl ?_
  obtain ⟨fs0, g12, hM0, hx0, hw⟩ := hw
  refine z_get hC hZ hM0 zc9 2 (by decide) q571 (fun _ h9 => h9) hx0 dX10_choice_199 ?_
  refine lv_iconst (v := 1) hx hb dX10_choice_202 (by decide) ?_
  refine lv_isub hx hb dX10_choice_203 ?_
  obtain ⟨fs0, hM0, hb0, hk0, hw⟩ := hw
  refine z_put hC hZ hM0 hb0 zc9 2 (by decide) q571 (fun _ h9 => h9) (by decide) rfl rfl hk0 dX10_choice_204 (fun H locs hZ => ?_)
  generalize zu M _ _ = M at hw hZ
  refine lv_aload_n hx hb dX10_choice_207 rfl (lv_at hl 0 rfl) ?_
  refine lv_dup hx hb dX10_choice_208 rfl ?_
  obtain ⟨fs0, g13, hM0, hx0, hw⟩ := hw
  refine z_get hC hZ hM0 zc9 3 (by decide) q572 (fun _ h9 => h9) hx0 dX10_choice_209 ?_
  refine lv_iload_n hx hb dX10_choice_212 rfl (lv_at hl 1 rfl) ?_
  refine lv_bipush (v := 112) hx hb dX10_choice_213 (by decide) ?_
  refine lv_icmp_ne (tgt := 222) hx hb dX10_choice_215 (by decide) (fun c14 => ?_) (fun c14 => ?_)
  · replace hw := hw.1 c14
    refine lv_iconst (v := 0) hx hb dX10_choice_222 (by decide) ?_
    exact wk_X10_choice_L223 hG hP _ _ _ _ _ _ _ hk hn hZ (lv_sub hl [2] rfl) hw
  · replace hw := hw.2 c14
    refine lv_iconst (v := 1) hx hb dX10_choice_218 (by decide) ?_
    refine lv_goto (tgt := 223) hx hb dX10_choice_219 (by decide) ?_
    exact wk_X10_choice_L223 hG hP _ _ _ _ _ _ _ hk hn hZ (lv_sub hl [2] rfl) hw
def wp_X10_choice_L171 (D : zD) (P : (Option Nat → zM → Prop) → (Nat → zM → Prop) → Nat → Nat → Nat → zM → Prop) (post : Option Nat → zM → Prop) (xp : Nat → zM → Prop) (o : Nat) (k : Nat) (n : Nat) (x2 : Int32) (x4 : Option Nat) (y0 : Option Nat) (y1 : Int32) (M : zM) : Prop :=
    ((zd y0 fun b17 => (zis M b17 [18, 19] ∧ wp_X20_of D (fun r18 M => ((¬ r18 = (-2 : Int32) → wp_X10_choice_L187 D P post xp o k n x2 x4 M) ∧ (r18 = (-2 : Int32) → (zgI M o 9 1 fun g21 => ((zis M o [9] ∧ wp_X10_lies D (fun _ M => wp_X10_choice_L187 D P post xp o k n x2 x4 M) o g21 M)))))) b17 y1 M)))
set_option maxHeartbeats 4000000 in
set_option maxRecDepth 100000 in
theorem wk_X10_choice_L171 {p : Program} {l : Launch} {e : Env} {s : State} {m : MethodId} {args : Array Value} {below : List Frame} {meth : Method} {c : Code} {D : zD} {P : (Option Nat → zM → Prop) → (Nat → zM → Prop) → Nat → Nat → Nat → zM → Prop} {post : Option Nat → zM → Prop} {xp : Nat → zM → Prop} {K N : Nat} {d : Nat} {o : Nat} (hG : zGx p l s m args meth c cX10_choice 5 "PluralBranches$Reader" D (some (.object "PluralBranches$Choice")) "choice" []) (hP : ∀ (post : Option Nat → zM → Prop) (xp : Nat → zM → Prop) (k n : Nat) (o : Nat) (M : zM), P post xp k n o M → zMet l D yX10_parts (ws_ yX10_parts cX10_parts 2 (some (.object "PluralBranches$Parts"))) (rm_X10_parts d k n) k n [.ref o] M zR post xp) : ∀ {H : Heap} {locs : List Loc} {cells slots : Nat} {ls : Array Slot} (k : Nat) (n : Nat) (x2 : Int32) (x4 : Option Nat) (y0 : Option Nat) (y1 : Int32) (M : zM), cells + k ≤ K → slots + n ≤ N → zS D M H locs → lv_has ls 5 [(0, .ref o), (2, .int x2), (4, va_rf x4)] → wp_X10_choice_L171 D P post xp o k n x2 x4 y0 y1 M → W p l e (rm_X10_choice d K N) s m args below meth c H locs cells slots (vx_MQ below (zQ D zR post) (zX D xp) args s K N (zA D)) (F0 m 171 ls [.int y1, va_rf y0]) := by
  have hC := hG.1
  have hx := hC.x
  have hb := hC.b
  have hown := hC.o
  have hts := hC.ts
  have hlt := hG.2.2.2.2.2
  intro H locs cells slots ls k n x2 x4 y0 y1 M hk hn hZ hl hw
  obtain ⟨b26, hr0, hw⟩ := hw
  subst hr0
  obtain ⟨⟨ci0, fs0, hci0, hM0⟩, hw⟩ := hw
  obtain ⟨C0, T0, N0, ty0, hc0, hsel0⟩ : ∃ (C0 : String) (T0 : u_T) (N0 : Nat) (ty0 : Nat → FieldType), zCls ci0 C0 T0 N0 ty0 ∧ Cond.selects C0 ⟨"PluralBranches$Choice", "of", "(I)I"⟩ yX20_of ∈ lw_all := (zal ⟨_, _, _, _, zc18, q958⟩ (zal ⟨_, _, _, _, zc19, q957⟩ (za0)) : ∀ ci ∈ [18, 19], ∃ (C0 : String) (T0 : u_T) (N0 : Nat) (ty0 : Nat → FieldType), zCls ci C0 T0 N0 ty0 ∧ Cond.selects C0 ⟨"PluralBranches$Choice", "of", "(I)I"⟩ yX20_of ∈ lw_all) ci0 hci0
  refine z_callI hZ (vx_runU (As := [.int y1]) (rest := []) hC.fix (w_X20_of hlt hw) (va_cwU (owner := "PluralBranches$Choice") (x := ⟨"PluralBranches$Choice", "of", "(I)I"⟩) 1 hts (lw_app (zal q954 (zal q956 (zal hsel0 (zal q955 (zal q99 za0))))) (lw_meth q959)) rfl rfl rfl rfl (by decide +kernel) ⟨(show 4 + 1 ≤ 10 + 5 * d by omega), (show 8 + (3 + 11) + (128) ≤ 261 + 113 * d by omega)⟩) (z_preV hC hZ hM0 hc0) rfl rfl hl.1 rfl (lv_room (Nat.zero_le _)) dX10_choice_171 ⟨(show cells + 0 ≤ K by omega), (show slots + 0 ≤ N by omega)⟩) (fun r27 M H locs hw1 hZ => ?_) (fun q M H locs ci fs E T9 N9 hw hZ hc1 hM1 hb1 => False.elim hw)
  replace hw := hw1
  clear hw1
  refine W.cs (cells' := cells) (slots' := slots) rfl rfl ?_
  refine lv_bipush (v := (-2)) hx hb dX10_choice_174 (by decide) ?_
  refine lv_icmp_ne (tgt := 187) hx hb dX10_choice_176 (by decide) (fun c34 => ?_) (fun c34 => ?_)
  · replace hw := hw.1 c34
    exact wk_X10_choice_L187 hG hP _ _ _ _ _ hk hn hZ (lv_sub hl [0, 1, 2] rfl) hw
  · replace hw := hw.2 c34
    refine lv_aload_n hx hb dX10_choice_179 rfl (lv_at hl 0 rfl) ?_
    refine lv_aload_n hx hb dX10_choice_180 rfl (lv_at hl 0 rfl) ?_
    obtain ⟨fs0, g30, hM0, hx0, hw⟩ := hw
    refine z_get hC hZ hM0 zc9 1 (by decide) q570 (fun _ h9 => h9) hx0 dX10_choice_181 ?_
    obtain ⟨⟨ci0, fs0, hci0, hM0⟩, hw⟩ := hw
    obtain rfl : ci0 = 9 := List.mem_singleton.mp hci0
    refine z_callU hZ (vx_runV (As := [.int g30]) (rest := []) hC.fix (w_X10_lies hlt hw) (cwV 1 hts (lw_V q722 q724 qs13 q86 q725) rfl rfl rfl ⟨rfl, dd_X10_lies⟩ ⟨(show 2 + 1 ≤ 10 + 5 * d by omega), (show 8 + (2 + 11) + (85) ≤ 261 + 113 * d by omega)⟩) (z_preV hC hZ hM0 zc9) rfl rfl hl.1 rfl (lv_room (Nat.zero_le _)) dX10_choice_184 ⟨(show cells + 0 ≤ K by omega), (show slots + 0 ≤ N by omega)⟩) (fun r31 M H locs hw1 hZ => ?_) (fun q M H locs ci fs E T9 N9 hw hZ hc1 hM1 hb1 => False.elim hw)
    replace hw := hw1
    clear hw1
    refine W.cs (cells' := cells) (slots' := slots) rfl rfl ?_
    exact wk_X10_choice_L187 hG hP _ _ _ _ _ hk hn hZ (lv_sub hl [0, 1, 2] rfl) hw
def wp_X10_choice_L149 (D : zD) (P : (Option Nat → zM → Prop) → (Nat → zM → Prop) → Nat → Nat → Nat → zM → Prop) (post : Option Nat → zM → Prop) (xp : Nat → zM → Prop) (o : Nat) : Nat → Nat → Nat → Int32 → Option Nat → zM → Prop
  | 0 => fun _ _ _ _ _ => False
  | f + 1 => fun k n x2 x4 M =>
    ((zis M o [9] ∧ (∃ k36 n37, k36 ≤ k ∧ n37 ≤ n ∧ wp_X10_branch D P (fun _ M => ((zis M o [9] ∧ wp_X10_here D (fun r38 M => ((¬ r38 = (125 : Int32) → wp_X10_choice_L149 D P post xp o f (k - k36) (n - n37) x2 x4 M) ∧ (r38 = (125 : Int32) → ((zd x4 fun b41 => ((zis M b41 [18] ∧ wp_X21_other D (fun r42 M => wp_X10_choice_L171 D P post xp o (k - k36) (n - n37) x2 (some b41) (some b41) r42 M) b41 M) ∨ (zis M b41 [19] ∧ wp_X22_other D (fun r45 M => wp_X10_choice_L171 D P post xp o (k - k36) (n - n37) x2 (some b41) (some b41) r45 M) b41 M))))))) o M))) xp k36 n37 o x4 M)))
set_option maxHeartbeats 4000000 in
set_option maxRecDepth 100000 in
theorem wk_X10_choice_L149 {p : Program} {l : Launch} {e : Env} {s : State} {m : MethodId} {args : Array Value} {below : List Frame} {meth : Method} {c : Code} {D : zD} {P : (Option Nat → zM → Prop) → (Nat → zM → Prop) → Nat → Nat → Nat → zM → Prop} {post : Option Nat → zM → Prop} {xp : Nat → zM → Prop} {K N : Nat} {d : Nat} {o : Nat} (hG : zGx p l s m args meth c cX10_choice 5 "PluralBranches$Reader" D (some (.object "PluralBranches$Choice")) "choice" []) (hP : ∀ (post : Option Nat → zM → Prop) (xp : Nat → zM → Prop) (k n : Nat) (o : Nat) (M : zM), P post xp k n o M → zMet l D yX10_parts (ws_ yX10_parts cX10_parts 2 (some (.object "PluralBranches$Parts"))) (rm_X10_parts d k n) k n [.ref o] M zR post xp) : ∀ (f : Nat), ∀ {H : Heap} {locs : List Loc} {cells slots : Nat} {ls : Array Slot} (k : Nat) (n : Nat) (x2 : Int32) (x4 : Option Nat) (M : zM), cells + k ≤ K → slots + n ≤ N → zS D M H locs → lv_has ls 5 [(0, .ref o), (2, .int x2), (4, va_rf x4)] → wp_X10_choice_L149 D P post xp o f k n x2 x4 M → W p l e (rm_X10_choice d K N) s m args below meth c H locs cells slots (vx_MQ below (zQ D zR post) (zX D xp) args s K N (zA D)) (F0 m 149 ls []) := by
  have hC := hG.1
  have hx := hC.x
  have hb := hC.b
  have hown := hC.o
  have hts := hC.ts
  have hlt := hG.2.2.2.2.2
  intro f
  induction f with
  | zero =>
    intro H locs cells slots ls k n x2 x4 M hk hn hZ hl hw
    exact absurd hw (fun h => h)
  | succ f ih =>
    intro H locs cells slots ls k n x2 x4 M hk hn hZ hl hw
    refine lv_aload_n hx hb dX10_choice_149 rfl (lv_at hl 0 rfl) ?_
    refine z_aload hC dX10_choice_150 (lv_at hl 2 rfl) ?_
    obtain ⟨⟨ci0, fs0, hci0, hM0⟩, hw⟩ := hw
    obtain ⟨k50, n51, hk1, hn1, hw⟩ := hw
    obtain rfl : ci0 = 9 := List.mem_singleton.mp hci0
    refine z_callU hZ (vx_runV (As := [va_rf x4]) (rest := []) hC.fix (w_X10_branch hlt hP hw) (cwV 1 hts (lw_V q847 q849 qs19 q86 q850) rfl rfl rfl ⟨rfl, dd_X10_branch⟩ ⟨(show 9 + 5 * d + 1 ≤ 10 + 5 * d by omega), (show 8 + (5 + 11) + (237 + 113 * d) ≤ 261 + 113 * d by omega)⟩) (z_preV hC hZ hM0 zc9) rfl rfl hl.1 rfl (lv_room (Nat.zero_le _)) dX10_choice_152 ⟨(show cells + k50 ≤ K by omega), (show slots + n51 ≤ N by omega)⟩) (fun r49 M H locs hw1 hZ => ?_) (fun q M H locs ci fs E T9 N9 hw1 hZ hc1 hM1 hb1 => ?_)
    · replace hw := hw1
      clear hw1
      have hk : cells + k50 + (k - k50) ≤ K := by omega
      have hn : slots + n51 + (n - n51) ≤ N := by omega
      generalize cells + k50 = cells at hk ⊢
      generalize slots + n51 = slots at hn ⊢
      clear hk1 hn1
      refine lv_aload_n hx hb dX10_choice_155 rfl (lv_at hl 0 rfl) ?_
      obtain ⟨⟨ci0, fs0, hci0, hM0⟩, hw⟩ := hw
      obtain rfl : ci0 = 9 := List.mem_singleton.mp hci0
      refine z_callI hZ (vx_runV (As := []) (rest := []) hC.fix (w_X10_here hlt hw) (cwV 0 hts (lw_V q613 q615 qs6 q86 q616) rfl rfl rfl ⟨rfl, dd_X10_here⟩ ⟨(show 1 + 1 ≤ 10 + 5 * d by omega), (show 8 + (1 + 11) + (64) ≤ 261 + 113 * d by omega)⟩) (z_preV hC hZ hM0 zc9) rfl rfl hl.1 rfl (lv_room (Nat.zero_le _)) dX10_choice_156 ⟨(show cells + 0 ≤ K by omega), (show slots + 0 ≤ N by omega)⟩) (fun r52 M H locs hw1 hZ => ?_) (fun q M H locs ci fs E T9 N9 hw hZ hc1 hM1 hb1 => False.elim hw)
      replace hw := hw1
      clear hw1
      refine W.cs (cells' := cells) (slots' := slots) rfl rfl ?_
      refine lv_bipush (v := 125) hx hb dX10_choice_159 (by decide) ?_
      refine lv_icmp_ne (tgt := 149) hx hb dX10_choice_161 (by decide) (fun c62 => ?_) (fun c62 => ?_)
      · replace hw := hw.1 c62
        exact ih _ _ _ _ _ hk hn hZ (lv_sub hl [0, 1, 2] rfl) hw
      · replace hw := hw.2 c62
        refine z_aload hC dX10_choice_164 (lv_at hl 2 rfl) ?_
        refine z_aload hC dX10_choice_166 (lv_at hl 2 rfl) ?_
        obtain ⟨b55, hr0, hw⟩ := hw
        subst hr0
        rcases hw with hw | hw
        · obtain ⟨⟨ci0, fs0, hci0, hM0⟩, hw⟩ := hw
          obtain ⟨C0, T0, N0, ty0, hc0, hsel0⟩ : ∃ (C0 : String) (T0 : u_T) (N0 : Nat) (ty0 : Nat → FieldType), zCls ci0 C0 T0 N0 ty0 ∧ Cond.selects C0 ⟨"PluralBranches$Choice", "other", "()I"⟩ yX21_other ∈ lw_all := (zal ⟨_, _, _, _, zc18, q988⟩ (za0) : ∀ ci ∈ [18], ∃ (C0 : String) (T0 : u_T) (N0 : Nat) (ty0 : Nat → FieldType), zCls ci C0 T0 N0 ty0 ∧ Cond.selects C0 ⟨"PluralBranches$Choice", "other", "()I"⟩ yX21_other ∈ lw_all) ci0 hci0
          refine z_callI hZ (vx_runU (As := []) (rest := [.ref b55]) hC.fix (w_X21_other hlt hw) (va_cwA (owner := "PluralBranches$Choice") (x := ⟨"PluralBranches$Choice", "other", "()I"⟩) 0 hts (lw_app (zal q982 (zal q984 (zal hsel0 (zal q989 (zal q100 za0))))) (lw_meth q990)) rfl rfl rfl (hC.nw q983 rfl) (by decide +kernel) ⟨(show 1 + 1 ≤ 10 + 5 * d by omega), (show 8 + (1 + 11) + (64) ≤ 261 + 113 * d by omega)⟩) (z_preV hC hZ hM0 hc0) rfl rfl hl.1 rfl (lv_room (Nat.le_trans (zrm1 rfl zrm0) (Nat.le_of_ble_eq_true rfl))) dX10_choice_168 ⟨(show cells + 0 ≤ K by omega), (show slots + 0 ≤ N by omega)⟩) (fun r56 M H locs hw1 hZ => ?_) (fun q M H locs ci fs E T9 N9 hw hZ hc1 hM1 hb1 => False.elim hw)
          replace hw := hw1
          clear hw1
          refine W.cs (cells' := cells) (slots' := slots) rfl rfl ?_
          exact wk_X10_choice_L171 hG hP _ _ _ _ _ _ _ hk hn hZ (lv_sub hl [0, 1, 2] rfl) hw
        · obtain ⟨⟨ci0, fs0, hci0, hM0⟩, hw⟩ := hw
          obtain ⟨C0, T0, N0, ty0, hc0, hsel0⟩ : ∃ (C0 : String) (T0 : u_T) (N0 : Nat) (ty0 : Nat → FieldType), zCls ci0 C0 T0 N0 ty0 ∧ Cond.selects C0 ⟨"PluralBranches$Choice", "other", "()I"⟩ yX22_other ∈ lw_all := (zal ⟨_, _, _, _, zc19, q985⟩ (za0) : ∀ ci ∈ [19], ∃ (C0 : String) (T0 : u_T) (N0 : Nat) (ty0 : Nat → FieldType), zCls ci C0 T0 N0 ty0 ∧ Cond.selects C0 ⟨"PluralBranches$Choice", "other", "()I"⟩ yX22_other ∈ lw_all) ci0 hci0
          refine z_callI hZ (vx_runU (As := []) (rest := [.ref b55]) hC.fix (w_X22_other hlt hw) (va_cwA (owner := "PluralBranches$Choice") (x := ⟨"PluralBranches$Choice", "other", "()I"⟩) 0 hts (lw_app (zal q982 (zal q984 (zal hsel0 (zal q986 (zal q101 za0))))) (lw_meth q987)) rfl rfl rfl (hC.nw q983 rfl) (by decide +kernel) ⟨(show 1 + 1 ≤ 10 + 5 * d by omega), (show 8 + (1 + 11) + (64) ≤ 261 + 113 * d by omega)⟩) (z_preV hC hZ hM0 hc0) rfl rfl hl.1 rfl (lv_room (Nat.le_trans (zrm1 rfl zrm0) (Nat.le_of_ble_eq_true rfl))) dX10_choice_168 ⟨(show cells + 0 ≤ K by omega), (show slots + 0 ≤ N by omega)⟩) (fun r59 M H locs hw1 hZ => ?_) (fun q M H locs ci fs E T9 N9 hw hZ hc1 hM1 hb1 => False.elim hw)
          replace hw := hw1
          clear hw1
          refine W.cs (cells' := cells) (slots' := slots) rfl rfl ?_
          exact wk_X10_choice_L171 hG hP _ _ _ _ _ _ _ hk hn hZ (lv_sub hl [0, 1, 2] rfl) hw
    · replace hw := hw1
      clear hw1
      exact z_out hG hZ hM1 hb1 hc1 za0 (by omega) (by omega) hw
def wp_X10_choice_L145 (D : zD) (P : (Option Nat → zM → Prop) → (Nat → zM → Prop) → Nat → Nat → Nat → zM → Prop) (post : Option Nat → zM → Prop) (xp : Nat → zM → Prop) (o : Nat) (k : Nat) (n : Nat) (x2 : Int32) (x4 : Option Nat) (y0 : Option Nat) (y1 : Int32) (y2 : Int32) (M : zM) : Prop :=
    ((zd y0 fun b63 => zp D M b63 9 3 (.int (y1 + y2)) fun M => (∃ f, wp_X10_choice_L149 D P post xp o f k n x2 x4 M)))
set_option maxHeartbeats 4000000 in
set_option maxRecDepth 100000 in
theorem wk_X10_choice_L145 {p : Program} {l : Launch} {e : Env} {s : State} {m : MethodId} {args : Array Value} {below : List Frame} {meth : Method} {c : Code} {D : zD} {P : (Option Nat → zM → Prop) → (Nat → zM → Prop) → Nat → Nat → Nat → zM → Prop} {post : Option Nat → zM → Prop} {xp : Nat → zM → Prop} {K N : Nat} {d : Nat} {o : Nat} (hG : zGx p l s m args meth c cX10_choice 5 "PluralBranches$Reader" D (some (.object "PluralBranches$Choice")) "choice" []) (hP : ∀ (post : Option Nat → zM → Prop) (xp : Nat → zM → Prop) (k n : Nat) (o : Nat) (M : zM), P post xp k n o M → zMet l D yX10_parts (ws_ yX10_parts cX10_parts 2 (some (.object "PluralBranches$Parts"))) (rm_X10_parts d k n) k n [.ref o] M zR post xp) : ∀ {H : Heap} {locs : List Loc} {cells slots : Nat} {ls : Array Slot} (k : Nat) (n : Nat) (x2 : Int32) (x4 : Option Nat) (y0 : Option Nat) (y1 : Int32) (y2 : Int32) (M : zM), cells + k ≤ K → slots + n ≤ N → zS D M H locs → lv_has ls 5 [(0, .ref o), (2, .int x2), (4, va_rf x4)] → wp_X10_choice_L145 D P post xp o k n x2 x4 y0 y1 y2 M → W p l e (rm_X10_choice d K N) s m args below meth c H locs cells slots (vx_MQ below (zQ D zR post) (zX D xp) args s K N (zA D)) (F0 m 145 ls [.int y2, .int y1, va_rf y0]) := by
  have hC := hG.1
  have hx := hC.x
  have hb := hC.b
  have hown := hC.o
  have hts := hC.ts
  have hlt := hG.2.2.2.2.2
  intro H locs cells slots ls k n x2 x4 y0 y1 y2 M hk hn hZ hl hw
  refine lv_iadd hx hb dX10_choice_145 ?_
  obtain ⟨b65, hr0, hw⟩ := hw
  subst hr0
  obtain ⟨fs0, hM0, hb0, hk0, hw⟩ := hw
  refine z_put hC hZ hM0 hb0 zc9 3 (by decide) q572 (fun _ h9 => h9) (by decide) rfl rfl hk0 dX10_choice_146 (fun H locs hZ => ?_)
  generalize zu M _ _ = M at hw hZ
  obtain ⟨f1, hw⟩ := hw
  exact wk_X10_choice_L149 hG hP f1 _ _ _ _ _ hk hn hZ (lv_sub hl [0, 1, 2] rfl) hw
def wp_X10_choice_L104 (D : zD) (P : (Option Nat → zM → Prop) → (Nat → zM → Prop) → Nat → Nat → Nat → zM → Prop) (post : Option Nat → zM → Prop) (xp : Nat → zM → Prop) (o : Nat) (k : Nat) (n : Nat) (x2 : Int32) (y0 : Option Nat) (M : zM) : Prop :=
    (zgR M o 9 0 fun g67 => ((zd g67 fun b68 => zgR M b68 10 2 fun g69 => ((zd g69 fun b70 => (zis M b70 [26] ∧ (∃ k72 n73, k72 ≤ k ∧ n73 ≤ n ∧ wp_J3_add D (fun r71 M => (zgI M o 9 2 fun g74 => (zp D M o 9 2 (.int (g74 + (1 : Int32))) fun M => (zgI M o 9 3 fun g75 => ((¬ x2 = (112 : Int32) → wp_X10_choice_L145 D P post xp o (k - k72) (n - n73) x2 y0 (some o) g75 (0 : Int32) M) ∧ (x2 = (112 : Int32) → wp_X10_choice_L145 D P post xp o (k - k72) (n - n73) x2 y0 (some o) g75 (1 : Int32) M)))))) k72 n73 b70 y0 M)))))))
set_option maxHeartbeats 4000000 in
set_option maxRecDepth 100000 in
theorem wk_X10_choice_L104 {p : Program} {l : Launch} {e : Env} {s : State} {m : MethodId} {args : Array Value} {below : List Frame} {meth : Method} {c : Code} {D : zD} {P : (Option Nat → zM → Prop) → (Nat → zM → Prop) → Nat → Nat → Nat → zM → Prop} {post : Option Nat → zM → Prop} {xp : Nat → zM → Prop} {K N : Nat} {d : Nat} {o : Nat} (hG : zGx p l s m args meth c cX10_choice 5 "PluralBranches$Reader" D (some (.object "PluralBranches$Choice")) "choice" []) (hP : ∀ (post : Option Nat → zM → Prop) (xp : Nat → zM → Prop) (k n : Nat) (o : Nat) (M : zM), P post xp k n o M → zMet l D yX10_parts (ws_ yX10_parts cX10_parts 2 (some (.object "PluralBranches$Parts"))) (rm_X10_parts d k n) k n [.ref o] M zR post xp) : ∀ {H : Heap} {locs : List Loc} {cells slots : Nat} {ls : Array Slot} (k : Nat) (n : Nat) (x2 : Int32) (y0 : Option Nat) (M : zM), cells + k ≤ K → slots + n ≤ N → zS D M H locs → lv_has ls 5 [(0, .ref o), (2, .int x2)] → wp_X10_choice_L104 D P post xp o k n x2 y0 M → W p l e (rm_X10_choice d K N) s m args below meth c H locs cells slots (vx_MQ below (zQ D zR post) (zX D xp) args s K N (zA D)) (F0 m 104 ls [va_rf y0]) := by
  have hC := hG.1
  have hx := hC.x
  have hb := hC.b
  have hown := hC.o
  have hts := hC.ts
  have hlt := hG.2.2.2.2.2
  intro H locs cells slots ls k n x2 y0 M hk hn hZ hl hw
  refine z_astore (i := 4) (lv' := [(4, va_rf y0), (0, .ref o), (2, .int x2)]) hC dX10_choice_104 hl (by decide) rfl (fun ls hl1 => ?_)
  replace hl := hl1
  clear hl1
  refine lv_aload_n hx hb dX10_choice_106 rfl (lv_at hl 1 rfl) ?_
  obtain ⟨fs0, g78, hM0, hx0, hw⟩ := hw
  refine z_get hC hZ hM0 zc9 0 (by decide) q569 (fun _ h9 => h9) hx0 dX10_choice_107 ?_
  obtain ⟨b79, hr0, hw⟩ := hw
  subst hr0
  obtain ⟨fs0, g80, hM0, hx0, hw⟩ := hw
  refine z_getN hC hZ hM0 zc10 2 (by decide) q551 (fun _ h9 => h9) hx0 dX10_choice_110 ?_
  refine z_aload hC dX10_choice_113 (lv_at hl 0 rfl) ?_
  obtain ⟨b81, hr0, hw⟩ := hw
  subst hr0
  obtain ⟨⟨ci0, fs0, hci0, hM0⟩, hw⟩ := hw
  obtain ⟨k83, n84, hk1, hn1, hw⟩ := hw
  obtain rfl : ci0 = 26 := List.mem_singleton.mp hci0
  refine z_callI hZ (vx_runV (As := [va_rf y0]) (rest := []) hC.fix (w_J3_add hlt hw) (cwV 1 hts (lw_V q846 q338 q339 q74 q340) rfl rfl rfl ⟨rfl, dd_J3_add⟩ ⟨(show 7 + 1 ≤ 10 + 5 * d by omega), (show 8 + (2 + 11) + (195) ≤ 261 + 113 * d by omega)⟩) (z_preV hC hZ hM0 zc26) rfl rfl hl.1 rfl (lv_room (Nat.zero_le _)) dX10_choice_115 ⟨(show cells + k83 ≤ K by omega), (show slots + n84 ≤ N by omega)⟩) (fun r82 M H locs hw1 hZ => ?_) (fun q M H locs ci fs E T9 N9 hw hZ hc1 hM1 hb1 => False.elim hw)
  replace hw := hw1
  clear hw1
  have hk : cells + k83 + (k - k83) ≤ K := by omega
  have hn : slots + n84 + (n - n84) ≤ N := by omega
  generalize cells + k83 = cells at hk ⊢
  generalize slots + n84 = slots at hn ⊢
  clear hk1 hn1
  refine lv_pop hx hb dX10_choice_118 rfl ?_
  refine lv_aload_n hx hb dX10_choice_119 rfl (lv_at hl 1 rfl) ?_
  refine lv_dup hx hb dX10_choice_120 rfl ?_
  obtain ⟨fs0, g85, hM0, hx0, hw⟩ := hw
  refine z_get hC hZ hM0 zc9 2 (by decide) q571 (fun _ h9 => h9) hx0 dX10_choice_121 ?_
  refine lv_iconst (v := 1) hx hb dX10_choice_124 (by decide) ?_
  refine lv_iadd hx hb dX10_choice_125 ?_
  obtain ⟨fs0, hM0, hb0, hk0, hw⟩ := hw
  refine z_put hC hZ hM0 hb0 zc9 2 (by decide) q571 (fun _ h9 => h9) (by decide) rfl rfl hk0 dX10_choice_126 (fun H locs hZ => ?_)
  generalize zu M _ _ = M at hw hZ
  refine lv_aload_n hx hb dX10_choice_129 rfl (lv_at hl 1 rfl) ?_
  refine lv_dup hx hb dX10_choice_130 rfl ?_
  obtain ⟨fs0, g86, hM0, hx0, hw⟩ := hw
  refine z_get hC hZ hM0 zc9 3 (by decide) q572 (fun _ h9 => h9) hx0 dX10_choice_131 ?_
  refine lv_iload_n hx hb dX10_choice_134 rfl (lv_at hl 2 rfl) ?_
  refine lv_bipush (v := 112) hx hb dX10_choice_135 (by decide) ?_
  refine lv_icmp_ne (tgt := 144) hx hb dX10_choice_137 (by decide) (fun c87 => ?_) (fun c87 => ?_)
  · replace hw := hw.1 c87
    refine lv_iconst (v := 0) hx hb dX10_choice_144 (by decide) ?_
    exact wk_X10_choice_L145 hG hP _ _ _ _ _ _ _ _ hk hn hZ (lv_sub hl [1, 2, 0] rfl) hw
  · replace hw := hw.2 c87
    refine lv_iconst (v := 1) hx hb dX10_choice_140 (by decide) ?_
    refine lv_goto (tgt := 145) hx hb dX10_choice_141 (by decide) ?_
    exact wk_X10_choice_L145 hG hP _ _ _ _ _ _ _ _ hk hn hZ (lv_sub hl [1, 2, 0] rfl) hw
def wp_X10_choice_L67 (D : zD) (P : (Option Nat → zM → Prop) → (Nat → zM → Prop) → Nat → Nat → Nat → zM → Prop) (post : Option Nat → zM → Prop) (xp : Nat → zM → Prop) (o : Nat) (k : Nat) (n : Nat) (x1 : Int32) (x2 : Int32) (x3 : Int32) (y0 : Option Nat) (y1 : Int32) (y2 : Int32) (M : zM) : Prop :=
    ((zd y0 fun b89 => (zis M b89 [9] ∧ wp_X10_uses D (fun _ M => ((¬ x2 = (112 : Int32) → (znew D M 19 3 [.null, .int 0, .int 0] k n fun b93 M => (zgI M o 9 2 fun g94 => ((∃ k96 n97, k96 ≤ (k - 1) ∧ n97 ≤ (n - 3) ∧ wp_X22_init D (fun _ M => wp_X10_choice_L104 D P post xp o ((k - 1) - k96) ((n - 3) - n97) x2 (some b93) M) k96 n97 b93 x1 g94 M))))) ∧ (x2 = (112 : Int32) → (znew D M 18 3 [.null, .int 0, .int 0] k n fun b98 M => (zgI M o 9 2 fun g99 => ((∃ k101 n102, k101 ≤ (k - 1) ∧ n102 ≤ (n - 3) ∧ wp_X21_init D (fun _ M => wp_X10_choice_L104 D P post xp o ((k - 1) - k101) ((n - 3) - n102) x2 (some b98) M) k101 n102 b98 x1 g99 M))))))) b89 y1 y2 x3 M)))
set_option maxHeartbeats 4000000 in
set_option maxRecDepth 100000 in
theorem wk_X10_choice_L67 {p : Program} {l : Launch} {e : Env} {s : State} {m : MethodId} {args : Array Value} {below : List Frame} {meth : Method} {c : Code} {D : zD} {P : (Option Nat → zM → Prop) → (Nat → zM → Prop) → Nat → Nat → Nat → zM → Prop} {post : Option Nat → zM → Prop} {xp : Nat → zM → Prop} {K N : Nat} {d : Nat} {o : Nat} (hG : zGx p l s m args meth c cX10_choice 5 "PluralBranches$Reader" D (some (.object "PluralBranches$Choice")) "choice" []) (hP : ∀ (post : Option Nat → zM → Prop) (xp : Nat → zM → Prop) (k n : Nat) (o : Nat) (M : zM), P post xp k n o M → zMet l D yX10_parts (ws_ yX10_parts cX10_parts 2 (some (.object "PluralBranches$Parts"))) (rm_X10_parts d k n) k n [.ref o] M zR post xp) : ∀ {H : Heap} {locs : List Loc} {cells slots : Nat} {ls : Array Slot} (k : Nat) (n : Nat) (x1 : Int32) (x2 : Int32) (x3 : Int32) (y0 : Option Nat) (y1 : Int32) (y2 : Int32) (M : zM), cells + k ≤ K → slots + n ≤ N → zS D M H locs → lv_has ls 5 [(0, .ref o), (1, .int x1), (2, .int x2), (3, .int x3)] → wp_X10_choice_L67 D P post xp o k n x1 x2 x3 y0 y1 y2 M → W p l e (rm_X10_choice d K N) s m args below meth c H locs cells slots (vx_MQ below (zQ D zR post) (zX D xp) args s K N (zA D)) (F0 m 67 ls [.int y2, .int y1, va_rf y0]) := by
  have hC := hG.1
  have hx := hC.x
  have hb := hC.b
  have hown := hC.o
  have hts := hC.ts
  have hlt := hG.2.2.2.2.2
  intro H locs cells slots ls k n x1 x2 x3 y0 y1 y2 M hk hn hZ hl hw
  refine lv_iload_n hx hb dX10_choice_67 rfl (lv_at hl 3 rfl) ?_
  obtain ⟨b104, hr0, hw⟩ := hw
  subst hr0
  obtain ⟨⟨ci0, fs0, hci0, hM0⟩, hw⟩ := hw
  obtain rfl : ci0 = 9 := List.mem_singleton.mp hci0
  refine z_callU hZ (vx_runV (As := [.int y1, .int y2, .int x3]) (rest := []) hC.fix (w_X10_uses hlt hw) (cwV 3 hts (lw_V q718 q720 qs12 q86 q721) rfl rfl rfl ⟨rfl, dd_X10_uses⟩ ⟨(show 3 + 1 ≤ 10 + 5 * d by omega), (show 8 + (4 + 11) + (106) ≤ 261 + 113 * d by omega)⟩) (z_preV hC hZ hM0 zc9) rfl rfl hl.1 rfl (lv_room (Nat.zero_le _)) dX10_choice_68 ⟨(show cells + 0 ≤ K by omega), (show slots + 0 ≤ N by omega)⟩) (fun r105 M H locs hw1 hZ => ?_) (fun q M H locs ci fs E T9 N9 hw hZ hc1 hM1 hb1 => False.elim hw)
  replace hw := hw1
  clear hw1
  refine W.cs (cells' := cells) (slots' := slots) rfl rfl ?_
  refine lv_iload_n hx hb dX10_choice_71 rfl (lv_at hl 2 rfl) ?_
  refine lv_bipush (v := 112) hx hb dX10_choice_72 (by decide) ?_
  refine lv_icmp_ne (tgt := 92) hx hb dX10_choice_74 (by decide) (fun c118 => ?_) (fun c118 => ?_)
  · replace hw := hw.1 c118
    obtain ⟨hk1, hn1, hw⟩ := hw
    refine z_new (fs := [.null, .int 0, .int 0]) hC hZ zc19 q836 q837 q101 (zdefs (N := 3) (ty := tyX22) (fs := [.null, .int 0, .int 0]) (by decide)) (show cells + 1 ≤ K by omega) (show slots + 3 ≤ N by omega) dX10_choice_92 (fun b108 H hq0 hq1 hZ => ?_)
    replace hw := hw b108 hq0 hq1
    generalize zu M _ _ = M at hw hZ
    have hk : cells + 1 + (k - 1) ≤ K := by omega
    have hn : slots + 3 + (n - 3) ≤ N := by omega
    generalize cells + 1 = cells at hk ⊢
    generalize slots + 3 = slots at hn ⊢
    clear hk1 hn1
    refine lv_dup hx hb dX10_choice_95 rfl ?_
    refine lv_iload_n hx hb dX10_choice_96 rfl (lv_at hl 1 rfl) ?_
    refine lv_aload_n hx hb dX10_choice_97 rfl (lv_at hl 0 rfl) ?_
    obtain ⟨fs0, g109, hM0, hx0, hw⟩ := hw
    refine z_get hC hZ hM0 zc9 2 (by decide) q571 (fun _ h9 => h9) hx0 dX10_choice_98 ?_
    obtain ⟨k111, n112, hk1, hn1, hw⟩ := hw
    refine z_callU hZ (vx_runI (As := [.int x1, .int g109]) (rest := [.ref b108]) hC.fix (w_X22_init hlt hw) (cwI 2 hts (lw_meth q840) rfl rfl rfl (hts _ q101) (hts _ q838) (hts _ q839) rfl dd_X22_init ⟨(show 5 + 1 ≤ 10 + 5 * d by omega), (show 8 + (3 + 11) + (146) ≤ 261 + 113 * d by omega)⟩) (z_preS hC hZ) rfl rfl hl.1 rfl (lv_room (Nat.le_trans (zrm1 rfl zrm0) (Nat.le_of_ble_eq_true rfl))) dX10_choice_101 ⟨(show cells + k111 ≤ K by omega), (show slots + n112 ≤ N by omega)⟩) (fun r110 M H locs hw1 hZ => ?_) (fun q M H locs ci fs E T9 N9 hw hZ hc1 hM1 hb1 => False.elim hw)
    replace hw := hw1
    clear hw1
    have hk : cells + k111 + ((k - 1) - k111) ≤ K := by omega
    have hn : slots + n112 + ((n - 3) - n112) ≤ N := by omega
    generalize cells + k111 = cells at hk ⊢
    generalize slots + n112 = slots at hn ⊢
    clear hk1 hn1
    exact wk_X10_choice_L104 hG hP _ _ _ _ _ hk hn hZ (lv_sub hl [0, 2] rfl) hw
  · replace hw := hw.2 c118
    obtain ⟨hk1, hn1, hw⟩ := hw
    refine z_new (fs := [.null, .int 0, .int 0]) hC hZ zc18 q810 q811 q100 (zdefs (N := 3) (ty := tyX21) (fs := [.null, .int 0, .int 0]) (by decide)) (show cells + 1 ≤ K by omega) (show slots + 3 ≤ N by omega) dX10_choice_77 (fun b113 H hq0 hq1 hZ => ?_)
    replace hw := hw b113 hq0 hq1
    generalize zu M _ _ = M at hw hZ
    have hk : cells + 1 + (k - 1) ≤ K := by omega
    have hn : slots + 3 + (n - 3) ≤ N := by omega
    generalize cells + 1 = cells at hk ⊢
    generalize slots + 3 = slots at hn ⊢
    clear hk1 hn1
    refine lv_dup hx hb dX10_choice_80 rfl ?_
    refine lv_iload_n hx hb dX10_choice_81 rfl (lv_at hl 1 rfl) ?_
    refine lv_aload_n hx hb dX10_choice_82 rfl (lv_at hl 0 rfl) ?_
    obtain ⟨fs0, g114, hM0, hx0, hw⟩ := hw
    refine z_get hC hZ hM0 zc9 2 (by decide) q571 (fun _ h9 => h9) hx0 dX10_choice_83 ?_
    obtain ⟨k116, n117, hk1, hn1, hw⟩ := hw
    refine z_callU hZ (vx_runI (As := [.int x1, .int g114]) (rest := [.ref b113]) hC.fix (w_X21_init hlt hw) (cwI 2 hts (lw_meth q814) rfl rfl rfl (hts _ q100) (hts _ q812) (hts _ q813) rfl dd_X21_init ⟨(show 5 + 1 ≤ 10 + 5 * d by omega), (show 8 + (3 + 11) + (146) ≤ 261 + 113 * d by omega)⟩) (z_preS hC hZ) rfl rfl hl.1 rfl (lv_room (Nat.le_trans (zrm1 rfl zrm0) (Nat.le_of_ble_eq_true rfl))) dX10_choice_86 ⟨(show cells + k116 ≤ K by omega), (show slots + n117 ≤ N by omega)⟩) (fun r115 M H locs hw1 hZ => ?_) (fun q M H locs ci fs E T9 N9 hw hZ hc1 hM1 hb1 => False.elim hw)
    replace hw := hw1
    clear hw1
    have hk : cells + k116 + ((k - 1) - k116) ≤ K := by omega
    have hn : slots + n117 + ((n - 3) - n117) ≤ N := by omega
    generalize cells + k116 = cells at hk ⊢
    generalize slots + n117 = slots at hn ⊢
    clear hk1 hn1
    refine lv_goto (tgt := 104) hx hb dX10_choice_89 (by decide) ?_
    exact wk_X10_choice_L104 hG hP _ _ _ _ _ hk hn hZ (lv_sub hl [0, 2] rfl) hw
def wp_X10_choice_L41 (D : zD) (P : (Option Nat → zM → Prop) → (Nat → zM → Prop) → Nat → Nat → Nat → zM → Prop) (post : Option Nat → zM → Prop) (xp : Nat → zM → Prop) (o : Nat) (k : Nat) (n : Nat) (x1 : Int32) (x2 : Int32) (x3 : Int32) (y0 : Option Nat) (y1 : Int32) (M : zM) : Prop :=
    ((zd y0 fun b119 => (zis M b119 [9] ∧ (∃ k121 n122, k121 ≤ k ∧ n122 ≤ n ∧ wp_X10_must D (fun _ M => (zgI M o 9 1 fun g123 => (zp D M o 9 1 (.int (g123 + (1 : Int32))) fun M => ((¬ x2 = (112 : Int32) → wp_X10_choice_L67 D P post xp o (k - k121) (n - n122) x1 x2 x3 (some o) x1 (2 : Int32) M) ∧ (x2 = (112 : Int32) → wp_X10_choice_L67 D P post xp o (k - k121) (n - n122) x1 x2 x3 (some o) x1 (1 : Int32) M))))) xp k121 n122 b119 y1 M))))
set_option maxHeartbeats 4000000 in
set_option maxRecDepth 100000 in
theorem wk_X10_choice_L41 {p : Program} {l : Launch} {e : Env} {s : State} {m : MethodId} {args : Array Value} {below : List Frame} {meth : Method} {c : Code} {D : zD} {P : (Option Nat → zM → Prop) → (Nat → zM → Prop) → Nat → Nat → Nat → zM → Prop} {post : Option Nat → zM → Prop} {xp : Nat → zM → Prop} {K N : Nat} {d : Nat} {o : Nat} (hG : zGx p l s m args meth c cX10_choice 5 "PluralBranches$Reader" D (some (.object "PluralBranches$Choice")) "choice" []) (hP : ∀ (post : Option Nat → zM → Prop) (xp : Nat → zM → Prop) (k n : Nat) (o : Nat) (M : zM), P post xp k n o M → zMet l D yX10_parts (ws_ yX10_parts cX10_parts 2 (some (.object "PluralBranches$Parts"))) (rm_X10_parts d k n) k n [.ref o] M zR post xp) : ∀ {H : Heap} {locs : List Loc} {cells slots : Nat} {ls : Array Slot} (k : Nat) (n : Nat) (x1 : Int32) (x2 : Int32) (x3 : Int32) (y0 : Option Nat) (y1 : Int32) (M : zM), cells + k ≤ K → slots + n ≤ N → zS D M H locs → lv_has ls 5 [(0, .ref o), (1, .int x1), (2, .int x2), (3, .int x3)] → wp_X10_choice_L41 D P post xp o k n x1 x2 x3 y0 y1 M → W p l e (rm_X10_choice d K N) s m args below meth c H locs cells slots (vx_MQ below (zQ D zR post) (zX D xp) args s K N (zA D)) (F0 m 41 ls [.int y1, va_rf y0]) := by
  have hC := hG.1
  have hx := hC.x
  have hb := hC.b
  have hown := hC.o
  have hts := hC.ts
  have hlt := hG.2.2.2.2.2
  intro H locs cells slots ls k n x1 x2 x3 y0 y1 M hk hn hZ hl hw
  obtain ⟨b126, hr0, hw⟩ := hw
  subst hr0
  obtain ⟨⟨ci0, fs0, hci0, hM0⟩, hw⟩ := hw
  obtain ⟨k128, n129, hk1, hn1, hw⟩ := hw
  obtain rfl : ci0 = 9 := List.mem_singleton.mp hci0
  refine z_callU hZ (vx_runV (As := [.int y1]) (rest := []) hC.fix (w_X10_must hlt hw) (cwV 1 hts (lw_V q640 q642 qs9 q86 q643) rfl rfl rfl ⟨rfl, dd_X10_must⟩ ⟨(show 6 + 1 ≤ 10 + 5 * d by omega), (show 8 + (2 + 11) + (177) ≤ 261 + 113 * d by omega)⟩) (z_preV hC hZ hM0 zc9) rfl rfl hl.1 rfl (lv_room (Nat.zero_le _)) dX10_choice_41 ⟨(show cells + k128 ≤ K by omega), (show slots + n129 ≤ N by omega)⟩) (fun r127 M H locs hw1 hZ => ?_) (fun q M H locs ci fs E T9 N9 hw1 hZ hc1 hM1 hb1 => ?_)
  · replace hw := hw1
    clear hw1
    have hk : cells + k128 + (k - k128) ≤ K := by omega
    have hn : slots + n129 + (n - n129) ≤ N := by omega
    generalize cells + k128 = cells at hk ⊢
    generalize slots + n129 = slots at hn ⊢
    clear hk1 hn1
    refine lv_aload_n hx hb dX10_choice_44 rfl (lv_at hl 0 rfl) ?_
    refine lv_dup hx hb dX10_choice_45 rfl ?_
    obtain ⟨fs0, g130, hM0, hx0, hw⟩ := hw
    refine z_get hC hZ hM0 zc9 1 (by decide) q570 (fun _ h9 => h9) hx0 dX10_choice_46 ?_
    refine lv_iconst (v := 1) hx hb dX10_choice_49 (by decide) ?_
    refine lv_iadd hx hb dX10_choice_50 ?_
    obtain ⟨fs0, hM0, hb0, hk0, hw⟩ := hw
    refine z_put hC hZ hM0 hb0 zc9 1 (by decide) q570 (fun _ h9 => h9) (by decide) rfl rfl hk0 dX10_choice_51 (fun H locs hZ => ?_)
    generalize zu M _ _ = M at hw hZ
    refine lv_aload_n hx hb dX10_choice_54 rfl (lv_at hl 0 rfl) ?_
    refine lv_iload_n hx hb dX10_choice_55 rfl (lv_at hl 1 rfl) ?_
    refine lv_iload_n hx hb dX10_choice_56 rfl (lv_at hl 2 rfl) ?_
    refine lv_bipush (v := 112) hx hb dX10_choice_57 (by decide) ?_
    refine lv_icmp_ne (tgt := 66) hx hb dX10_choice_59 (by decide) (fun c131 => ?_) (fun c131 => ?_)
    · replace hw := hw.1 c131
      refine lv_iconst (v := 2) hx hb dX10_choice_66 (by decide) ?_
      exact wk_X10_choice_L67 hG hP _ _ _ _ _ _ _ _ _ hk hn hZ (lv_sub hl [0, 1, 2, 3] rfl) hw
    · replace hw := hw.2 c131
      refine lv_iconst (v := 1) hx hb dX10_choice_62 (by decide) ?_
      refine lv_goto (tgt := 67) hx hb dX10_choice_63 (by decide) ?_
      exact wk_X10_choice_L67 hG hP _ _ _ _ _ _ _ _ _ hk hn hZ (lv_sub hl [0, 1, 2, 3] rfl) hw
  · replace hw := hw1
    clear hw1
    exact z_out hG hZ hM1 hb1 hc1 za0 (by omega) (by omega) hw
def wp_X10_choice_L40 (D : zD) (P : (Option Nat → zM → Prop) → (Nat → zM → Prop) → Nat → Nat → Nat → zM → Prop) (post : Option Nat → zM → Prop) (xp : Nat → zM → Prop) (o : Nat) (k : Nat) (n : Nat) (x1 : Int32) (x2 : Int32) (x3 : Int32) (y0 : Option Nat) (M : zM) : Prop :=
    wp_X10_choice_L41 D P post xp o k n x1 x2 x3 y0 (0 : Int32) M
set_option maxHeartbeats 4000000 in
set_option maxRecDepth 100000 in
theorem wk_X10_choice_L40 {p : Program} {l : Launch} {e : Env} {s : State} {m : MethodId} {args : Array Value} {below : List Frame} {meth : Method} {c : Code} {D : zD} {P : (Option Nat → zM → Prop) → (Nat → zM → Prop) → Nat → Nat → Nat → zM → Prop} {post : Option Nat → zM → Prop} {xp : Nat → zM → Prop} {K N : Nat} {d : Nat} {o : Nat} (hG : zGx p l s m args meth c cX10_choice 5 "PluralBranches$Reader" D (some (.object "PluralBranches$Choice")) "choice" []) (hP : ∀ (post : Option Nat → zM → Prop) (xp : Nat → zM → Prop) (k n : Nat) (o : Nat) (M : zM), P post xp k n o M → zMet l D yX10_parts (ws_ yX10_parts cX10_parts 2 (some (.object "PluralBranches$Parts"))) (rm_X10_parts d k n) k n [.ref o] M zR post xp) : ∀ {H : Heap} {locs : List Loc} {cells slots : Nat} {ls : Array Slot} (k : Nat) (n : Nat) (x1 : Int32) (x2 : Int32) (x3 : Int32) (y0 : Option Nat) (M : zM), cells + k ≤ K → slots + n ≤ N → zS D M H locs → lv_has ls 5 [(0, .ref o), (1, .int x1), (2, .int x2), (3, .int x3)] → wp_X10_choice_L40 D P post xp o k n x1 x2 x3 y0 M → W p l e (rm_X10_choice d K N) s m args below meth c H locs cells slots (vx_MQ below (zQ D zR post) (zX D xp) args s K N (zA D)) (F0 m 40 ls [va_rf y0]) := by
  have hC := hG.1
  have hx := hC.x
  have hb := hC.b
  have hown := hC.o
  have hts := hC.ts
  have hlt := hG.2.2.2.2.2
  intro H locs cells slots ls k n x1 x2 x3 y0 M hk hn hZ hl hw
  refine lv_iconst (v := 0) hx hb dX10_choice_40 (by decide) ?_
  exact wk_X10_choice_L41 hG hP _ _ _ _ _ _ _ _ hk hn hZ (lv_sub hl [0, 1, 2, 3] rfl) hw
def wp_X10_choice_L13 (D : zD) (P : (Option Nat → zM → Prop) → (Nat → zM → Prop) → Nat → Nat → Nat → zM → Prop) (post : Option Nat → zM → Prop) (xp : Nat → zM → Prop) (o : Nat) (k : Nat) (n : Nat) (x1 : Int32) (x2 : Int32) (x3 : Int32) (y0 : Option Nat) (M : zM) : Prop :=
    (zgI M o 9 2 fun g133 => (((3 : Int32) ≤ g133 → wp_X10_choice_L40 D P post xp o k n x1 x2 x3 y0 M) ∧ (¬ (3 : Int32) ≤ g133 → (zgR M o 9 0 fun g134 => ((zd g134 fun b135 => zgR M b135 10 2 fun g136 => ((zd g136 fun b137 => (zis M b137 [26] ∧ wp_J3_size D (fun r138 M => (((8 : Int32) ≤ r138 → wp_X10_choice_L40 D P post xp o k n x1 x2 x3 y0 M) ∧ (¬ (8 : Int32) ≤ r138 → wp_X10_choice_L41 D P post xp o k n x1 x2 x3 y0 (1 : Int32) M))) b137 M)))))))))
set_option maxHeartbeats 4000000 in
set_option maxRecDepth 100000 in
theorem wk_X10_choice_L13 {p : Program} {l : Launch} {e : Env} {s : State} {m : MethodId} {args : Array Value} {below : List Frame} {meth : Method} {c : Code} {D : zD} {P : (Option Nat → zM → Prop) → (Nat → zM → Prop) → Nat → Nat → Nat → zM → Prop} {post : Option Nat → zM → Prop} {xp : Nat → zM → Prop} {K N : Nat} {d : Nat} {o : Nat} (hG : zGx p l s m args meth c cX10_choice 5 "PluralBranches$Reader" D (some (.object "PluralBranches$Choice")) "choice" []) (hP : ∀ (post : Option Nat → zM → Prop) (xp : Nat → zM → Prop) (k n : Nat) (o : Nat) (M : zM), P post xp k n o M → zMet l D yX10_parts (ws_ yX10_parts cX10_parts 2 (some (.object "PluralBranches$Parts"))) (rm_X10_parts d k n) k n [.ref o] M zR post xp) : ∀ {H : Heap} {locs : List Loc} {cells slots : Nat} {ls : Array Slot} (k : Nat) (n : Nat) (x1 : Int32) (x2 : Int32) (x3 : Int32) (y0 : Option Nat) (M : zM), cells + k ≤ K → slots + n ≤ N → zS D M H locs → lv_has ls 5 [(0, .ref o), (1, .int x1), (2, .int x2), (3, .int x3)] → wp_X10_choice_L13 D P post xp o k n x1 x2 x3 y0 M → W p l e (rm_X10_choice d K N) s m args below meth c H locs cells slots (vx_MQ below (zQ D zR post) (zX D xp) args s K N (zA D)) (F0 m 13 ls [va_rf y0]) := by
  have hC := hG.1
  have hx := hC.x
  have hb := hC.b
  have hown := hC.o
  have hts := hC.ts
  have hlt := hG.2.2.2.2.2
  intro H locs cells slots ls k n x1 x2 x3 y0 M hk hn hZ hl hw
  refine lv_aload_n hx hb dX10_choice_13 rfl (lv_at hl 0 rfl) ?_
  obtain ⟨fs0, g143, hM0, hx0, hw⟩ := hw
  refine z_get hC hZ hM0 zc9 2 (by decide) q571 (fun _ h9 => h9) hx0 dX10_choice_14 ?_
  refine lv_iconst (v := 3) hx hb dX10_choice_17 (by decide) ?_
  refine lv_icmp_ge (tgt := 40) hx hb dX10_choice_18 (by decide) (fun c152 => ?_) (fun c152 => ?_)
  · replace hw := hw.1 c152
    exact wk_X10_choice_L40 hG hP _ _ _ _ _ _ _ hk hn hZ (lv_sub hl [0, 1, 2, 3] rfl) hw
  · replace hw := hw.2 c152
    refine lv_aload_n hx hb dX10_choice_21 rfl (lv_at hl 0 rfl) ?_
    obtain ⟨fs0, g144, hM0, hx0, hw⟩ := hw
    refine z_get hC hZ hM0 zc9 0 (by decide) q569 (fun _ h9 => h9) hx0 dX10_choice_22 ?_
    obtain ⟨b145, hr0, hw⟩ := hw
    subst hr0
    obtain ⟨fs0, g146, hM0, hx0, hw⟩ := hw
    refine z_getN hC hZ hM0 zc10 2 (by decide) q551 (fun _ h9 => h9) hx0 dX10_choice_25 ?_
    obtain ⟨b147, hr0, hw⟩ := hw
    subst hr0
    obtain ⟨⟨ci0, fs0, hci0, hM0⟩, hw⟩ := hw
    obtain rfl : ci0 = 26 := List.mem_singleton.mp hci0
    refine z_callI hZ (vx_runV (As := []) (rest := [va_rf y0]) hC.fix (w_J3_size hlt hw) (cwV 0 hts (lw_V q809 q464 q465 q74 q466) rfl rfl rfl ⟨rfl, dd_J3_size⟩ ⟨(show 1 + 1 ≤ 10 + 5 * d by omega), (show 8 + (1 + 11) + (64) ≤ 261 + 113 * d by omega)⟩) (z_preV hC hZ hM0 zc26) rfl rfl hl.1 rfl (lv_room (Nat.le_trans (zrm1 (zcat _) zrm0) (Nat.le_of_ble_eq_true rfl))) dX10_choice_28 ⟨(show cells + 0 ≤ K by omega), (show slots + 0 ≤ N by omega)⟩) (fun r148 M H locs hw1 hZ => ?_) (fun q M H locs ci fs E T9 N9 hw hZ hc1 hM1 hb1 => False.elim hw)
    replace hw := hw1
    clear hw1
    refine W.cs (cells' := cells) (slots' := slots) rfl rfl ?_
    refine lv_bipush (v := 8) hx hb dX10_choice_31 (by decide) ?_
    refine lv_icmp_ge (tgt := 40) hx hb dX10_choice_33 (by decide) (fun c151 => ?_) (fun c151 => ?_)
    · replace hw := hw.1 c151
      exact wk_X10_choice_L40 hG hP _ _ _ _ _ _ _ hk hn hZ (lv_sub hl [0, 1, 2, 3] rfl) hw
    · replace hw := hw.2 c151
      refine lv_iconst (v := 1) hx hb dX10_choice_36 (by decide) ?_
      refine lv_goto (tgt := 41) hx hb dX10_choice_37 (by decide) ?_
      exact wk_X10_choice_L41 hG hP _ _ _ _ _ _ _ _ hk hn hZ (lv_sub hl [0, 1, 2, 3] rfl) hw
def wp_X10_choice (D : zD) (P : (Option Nat → zM → Prop) → (Nat → zM → Prop) → Nat → Nat → Nat → zM → Prop) (post : Option Nat → zM → Prop) (xp : Nat → zM → Prop) (k : Nat) (n : Nat) (o : Nat) (a0 : Int32) (a1 : Int32) (a2 : Int32) (M : zM) : Prop :=
    ((a1 = (112 : Int32) → wp_X10_choice_L13 D P post xp o k n a0 a1 a2 (some o) M) ∧ (¬ a1 = (112 : Int32) → ((¬ a1 = (103 : Int32) → wp_X10_choice_L40 D P post xp o k n a0 a1 a2 (some o) M) ∧ (a1 = (103 : Int32) → wp_X10_choice_L13 D P post xp o k n a0 a1 a2 (some o) M))))
set_option maxHeartbeats 4000000 in
set_option maxRecDepth 100000 in
theorem w_X10_choice {l : Launch} {D : zD} {post : Option Nat → zM → Prop} {xp : Nat → zM → Prop} {P : (Option Nat → zM → Prop) → (Nat → zM → Prop) → Nat → Nat → Nat → zM → Prop} {d : Nat} (hlt : l.stackTraces = false) (hP : ∀ (post : Option Nat → zM → Prop) (xp : Nat → zM → Prop) (k n : Nat) (o : Nat) (M : zM), P post xp k n o M → zMet l D yX10_parts (ws_ yX10_parts cX10_parts 2 (some (.object "PluralBranches$Parts"))) (rm_X10_parts d k n) k n [.ref o] M zR post xp) {k : Nat} {n : Nat} {o : Nat} {a0 : Int32} {a1 : Int32} {a2 : Int32} {M : zM} (hw : wp_X10_choice D P post xp k n o a0 a1 a2 M) : zMet l D yX10_choice (ws_ yX10_choice cX10_choice 5 (some (.object "PluralBranches$Choice"))) (rm_X10_choice d k n) k n [.ref o, .int a0, .int a1, .int a2] M zR post xp := by
  unfold wp_X10_choice at hw
  have hlv : lv_args 0 [.ref o, .int a0, .int a1, .int a2] = [(0, .ref o), (1, .int a0), (2, .int a1), (3, .int a2)] := (zargs1 rfl (zargs1 rfl (zargs1 rfl (zargs1 rfl rfl))))
  refine z_ofW hlt (by decide) (Nat.le_trans (zsl1 rfl (zsl1 rfl (zsl1 rfl (zsl1 rfl (Nat.le_refl 0 : (lg_sl []).length ≤ 0))))) (Nat.le_of_ble_eq_true rfl)) hlv ?_
  intro p e s m args below meth c ls hG hZ hl
  have hC := hG.1
  have hx := hC.x
  have hb := hC.b
  have hown := hC.o
  have hts := hC.ts
  have hlt := hG.2.2.2.2.2
  obtain ⟨cells, hce⟩ : ∃ z : Nat, z = 0 := ⟨0, rfl⟩
  obtain ⟨slots, hsl⟩ : ∃ z : Nat, z = 0 := ⟨0, rfl⟩
  refine W.cs (cells' := cells) (slots' := slots) hce.symm hsl.symm ?_
  have hk : cells + k ≤ k := by omega
  have hn : slots + n ≤ n := by omega
  clear hce hsl
  refine lv_aload_n hx hb dX10_choice_0 rfl (lv_at hl 0 rfl) ?_
  refine lv_iload_n hx hb dX10_choice_1 rfl (lv_at hl 2 rfl) ?_
  refine lv_bipush (v := 112) hx hb dX10_choice_2 (by decide) ?_
  refine lv_icmp_eq (tgt := 13) hx hb dX10_choice_4 (by decide) (fun c156 => ?_) (fun c156 => ?_)
  · replace hw := hw.1 c156
    exact wk_X10_choice_L13 hG hP _ _ _ _ _ _ _ hk hn hZ (lv_sub hl [0, 1, 2, 3] rfl) hw
  · replace hw := hw.2 c156
    refine lv_iload_n hx hb dX10_choice_7 rfl (lv_at hl 2 rfl) ?_
    refine lv_bipush (v := 103) hx hb dX10_choice_8 (by decide) ?_
    refine lv_icmp_ne (tgt := 40) hx hb dX10_choice_10 (by decide) (fun c155 => ?_) (fun c155 => ?_)
    · replace hw := hw.1 c155
      exact wk_X10_choice_L40 hG hP _ _ _ _ _ _ _ hk hn hZ (lv_sub hl [0, 1, 2, 3] rfl) hw
    · replace hw := hw.2 c155
      exact wk_X10_choice_L13 hG hP _ _ _ _ _ _ _ hk hn hZ (lv_sub hl [0, 1, 2, 3] rfl) hw
def wp_X10_braced (D : zD) (P : (Option Nat → zM → Prop) → (Nat → zM → Prop) → Nat → Nat → Nat → zM → Prop) (post : Option Nat → zM → Prop) (xp : Nat → zM → Prop) (k : Nat) (n : Nat) (o : Nat) (M : zM) : Prop :=
    (zgI M o 9 1 fun g1 => ((zis M o [9] ∧ wp_X10_here D (fun r2 M => (wp_X0_in D (fun r5 M => ((zis M o [9] ∧ (∃ k9 n10, k9 ≤ k ∧ n10 ≤ n ∧ wp_X10_must D (fun _ M => ((zis M o [9] ∧ wp_X10_here D (fun r11 M => (zgI M o 9 1 fun g14 => (zp D M o 9 1 (.int (g14 + (1 : Int32))) fun M => ((zis M o [9] ∧ wp_X10_here D (fun r15 M => (zgI M o 9 1 fun g18 => (zp D M o 9 1 (.int (g18 + (1 : Int32))) fun M => ((r15 = 108 → ((zis M o [9] ∧ wp_X10_uses D (fun _ M => ((zis M o [9] ∧ (∃ k23 n24, k23 ≤ (k - k9) ∧ n24 ≤ (n - n10) ∧ wp_X10_wants D (fun _ M => (znew D M 15 1 [.int 0] ((k - k9) - k23) ((n - n10) - n24) fun b25 M => (wp_X17_init D (fun _ M => post (some b25) M) b25 (r11 - (65 : Int32)) M))) xp k23 n24 o (125 : Int32) M)))) o (r11 - (65 : Int32)) (3 : Int32) g1 M))) ∧ (r15 = 110 → ((zis M o [9] ∧ wp_X10_uses D (fun _ M => (znew D M 16 2 [.int 0, .null] (k - k9) (n - n10) fun b32 M => ((zis M o [9] ∧ (∃ k34 n35, k34 ≤ ((k - k9) - 1) ∧ n35 ≤ ((n - n10) - 2) ∧ wp_X10_pattern D (fun r33 M => (wp_X18_init D (fun _ M => post (some b32) M) b32 (r11 - (65 : Int32)) r33 M)) xp k34 n35 o M))))) o (r11 - (65 : Int32)) (1 : Int32) g1 M))) ∧ (r15 = 125 → ((zis M o [9] ∧ wp_X10_uses D (fun _ M => (znew D M 14 1 [.int 0] (k - k9) (n - n10) fun b42 M => (wp_X16_init D (fun _ M => post (some b42) M) b42 (r11 - (65 : Int32)) M))) o (r11 - (65 : Int32)) (0 : Int32) g1 M))) ∧ (¬ r15 = 108 ∧ ¬ r15 = 110 ∧ ¬ r15 = 125 → (zgI M o 9 1 fun g46 => (zp D M o 9 1 (.int (g46 - (1 : Int32))) fun M => ((zis M o [9] ∧ (∃ k48 n49, k48 ≤ (k - k9) ∧ n49 ≤ (n - n10) ∧ wp_X10_choice D P (fun r47 M => post r47 M) xp k48 n49 o (r11 - (65 : Int32)) r15 g1 M)))))))))) o M))))) o M))) xp k9 n10 o r5 M)))) (r2.toInt64) (65 : Int64) (69 : Int64) M)) o M)))
set_option maxHeartbeats 4000000 in
set_option maxRecDepth 100000 in
theorem w_X10_braced {l : Launch} {D : zD} {post : Option Nat → zM → Prop} {xp : Nat → zM → Prop} {P : (Option Nat → zM → Prop) → (Nat → zM → Prop) → Nat → Nat → Nat → zM → Prop} {d : Nat} (hlt : l.stackTraces = false) (hP : ∀ (post : Option Nat → zM → Prop) (xp : Nat → zM → Prop) (k n : Nat) (o : Nat) (M : zM), P post xp k n o M → zMet l D yX10_parts (ws_ yX10_parts cX10_parts 2 (some (.object "PluralBranches$Parts"))) (rm_X10_parts d k n) k n [.ref o] M zR post xp) {k : Nat} {n : Nat} {o : Nat} {M : zM} (hw : wp_X10_braced D P post xp k n o M) : zMet l D yX10_braced (ws_ yX10_braced cX10_braced 4 (some (.object "PluralBranches$Part"))) (rm_X10_braced d k n) k n [.ref o] M zR post xp := by
  unfold wp_X10_braced at hw
  have hlv : lv_args 0 [.ref o] = [(0, .ref o)] := (zargs1 rfl rfl)
  refine z_ofW hlt (by decide) (Nat.le_trans (zsl1 rfl (Nat.le_refl 0 : (lg_sl []).length ≤ 0)) (Nat.le_of_ble_eq_true rfl)) hlv ?_
  intro p e s m args below meth c ls hG hZ hl
  have hC := hG.1
  have hx := hC.x
  have hb := hC.b
  have hown := hC.o
  have hts := hC.ts
  have hlt := hG.2.2.2.2.2
  obtain ⟨cells, hce⟩ : ∃ z : Nat, z = 0 := ⟨0, rfl⟩
  obtain ⟨slots, hsl⟩ : ∃ z : Nat, z = 0 := ⟨0, rfl⟩
  refine W.cs (cells' := cells) (slots' := slots) hce.symm hsl.symm ?_
  have hk : cells + k ≤ k := by omega
  have hn : slots + n ≤ n := by omega
  clear hce hsl
  refine lv_aload_n hx hb dX10_braced_0 rfl (lv_at hl 0 rfl) ?_
  obtain ⟨fs0, g56, hM0, hx0, hw⟩ := hw
  refine z_get hC hZ hM0 zc9 1 (by decide) q570 (fun _ h9 => h9) hx0 dX10_braced_1 ?_
  refine lv_istore_n (i := 1) (lv' := [(1, .int g56), (0, .ref o)]) hx hb dX10_braced_4 rfl hl (by decide) rfl (fun ls hl1 => ?_)
  replace hl := hl1
  clear hl1
  refine lv_aload_n hx hb dX10_braced_5 rfl (lv_at hl 1 rfl) ?_
  refine lv_aload_n hx hb dX10_braced_6 rfl (lv_at hl 1 rfl) ?_
  obtain ⟨⟨ci0, fs0, hci0, hM0⟩, hw⟩ := hw
  obtain rfl : ci0 = 9 := List.mem_singleton.mp hci0
  refine z_callI hZ (vx_runV (As := []) (rest := [.ref o]) hC.fix (w_X10_here hlt hw) (cwV 0 hts (lw_V q613 q615 qs6 q86 q616) rfl rfl rfl ⟨rfl, dd_X10_here⟩ ⟨(show 1 + 1 ≤ 11 + 5 * d by omega), (show 8 + (1 + 11) + (64) ≤ 285 + 113 * d by omega)⟩) (z_preV hC hZ hM0 zc9) rfl rfl hl.1 rfl (lv_room (Nat.le_trans (zrm1 rfl zrm0) (Nat.le_of_ble_eq_true rfl))) dX10_braced_7 ⟨(show cells + 0 ≤ k by omega), (show slots + 0 ≤ n by omega)⟩) (fun r57 M H locs hw1 hZ => ?_) (fun q M H locs ci fs E T9 N9 hw hZ hc1 hM1 hb1 => False.elim hw)
  replace hw := hw1
  clear hw1
  refine W.cs (cells' := cells) (slots' := slots) rfl rfl ?_
  refine lv_i2l hx hb dX10_braced_10 rfl ?_
  refine lv_ldc2 hx hb hown (hts _ q638) dX10_braced_11 ?_
  refine lv_ldc2 hx hb hown (hts _ q639) dX10_braced_14 ?_
  refine z_callI hZ (vx_runSN (As := [.long (r57.toInt64), .long (65 : Int64), .long (69 : Int64)]) (rest := [.ref o]) hC.fix (w_X0_in hlt hw) ⟨va_cnB 3 hts (lw_meth q436) rfl rfl rfl (hC.nw q619 rfl) (hts _ q67) dd_X0_in ⟨(show 1 + 1 ≤ 11 + 5 * d by omega), (show 8 + (6 + 11) + (64) ≤ 285 + 113 * d by omega)⟩, hts _ q435, trivial⟩ (z_preS hC hZ) rfl rfl hl.1 rfl (lv_room (Nat.le_trans (zrm1 rfl zrm0) (Nat.le_of_ble_eq_true rfl))) dX10_braced_17 ⟨(show cells + 0 ≤ k by omega), (show slots + 0 ≤ n by omega)⟩) (fun r60 M H locs hw1 hZ => ?_) (fun q M H locs ci fs E T9 N9 hw hZ hc1 hM1 hb1 => False.elim hw)
  replace hw := hw1
  clear hw1
  refine W.cs (cells' := cells) (slots' := slots) rfl rfl ?_
  obtain ⟨⟨ci0, fs0, hci0, hM0⟩, hw⟩ := hw
  obtain ⟨k64, n65, hk1, hn1, hw⟩ := hw
  obtain rfl : ci0 = 9 := List.mem_singleton.mp hci0
  refine z_callU hZ (vx_runV (As := [.int r60]) (rest := []) hC.fix (w_X10_must hlt hw) (cwV 1 hts (lw_V q640 q642 qs9 q86 q643) rfl rfl rfl ⟨rfl, dd_X10_must⟩ ⟨(show 6 + 1 ≤ 11 + 5 * d by omega), (show 8 + (2 + 11) + (177) ≤ 285 + 113 * d by omega)⟩) (z_preV hC hZ hM0 zc9) rfl rfl hl.1 rfl (lv_room (Nat.zero_le _)) dX10_braced_20 ⟨(show cells + k64 ≤ k by omega), (show slots + n65 ≤ n by omega)⟩) (fun r63 M H locs hw1 hZ => ?_) (fun q M H locs ci fs E T9 N9 hw1 hZ hc1 hM1 hb1 => ?_)
  · replace hw := hw1
    clear hw1
    have hk : cells + k64 + (k - k64) ≤ k := by omega
    have hn : slots + n65 + (n - n65) ≤ n := by omega
    generalize cells + k64 = cells at hk ⊢
    generalize slots + n65 = slots at hn ⊢
    clear hk1 hn1
    refine lv_aload_n hx hb dX10_braced_23 rfl (lv_at hl 1 rfl) ?_
    obtain ⟨⟨ci0, fs0, hci0, hM0⟩, hw⟩ := hw
    obtain rfl : ci0 = 9 := List.mem_singleton.mp hci0
    refine z_callI hZ (vx_runV (As := []) (rest := []) hC.fix (w_X10_here hlt hw) (cwV 0 hts (lw_V q613 q615 qs6 q86 q616) rfl rfl rfl ⟨rfl, dd_X10_here⟩ ⟨(show 1 + 1 ≤ 11 + 5 * d by omega), (show 8 + (1 + 11) + (64) ≤ 285 + 113 * d by omega)⟩) (z_preV hC hZ hM0 zc9) rfl rfl hl.1 rfl (lv_room (Nat.zero_le _)) dX10_braced_24 ⟨(show cells + 0 ≤ k by omega), (show slots + 0 ≤ n by omega)⟩) (fun r66 M H locs hw1 hZ => ?_) (fun q M H locs ci fs E T9 N9 hw hZ hc1 hM1 hb1 => False.elim hw)
    replace hw := hw1
    clear hw1
    refine W.cs (cells' := cells) (slots' := slots) rfl rfl ?_
    refine lv_bipush (v := 65) hx hb dX10_braced_27 (by decide) ?_
    refine lv_isub hx hb dX10_braced_29 ?_
    refine lv_istore_n (i := 2) (lv' := [(2, .int (r66 - (65 : Int32))), (1, .int g56), (0, .ref o)]) hx hb dX10_braced_30 rfl hl (by decide) rfl (fun ls hl1 => ?_)
    replace hl := hl1
    clear hl1
    refine lv_aload_n hx hb dX10_braced_31 rfl (lv_at hl 2 rfl) ?_
    refine lv_dup hx hb dX10_braced_32 rfl ?_
    obtain ⟨fs0, g69, hM0, hx0, hw⟩ := hw
    refine z_get hC hZ hM0 zc9 1 (by decide) q570 (fun _ h9 => h9) hx0 dX10_braced_33 ?_
    refine lv_iconst (v := 1) hx hb dX10_braced_36 (by decide) ?_
    refine lv_iadd hx hb dX10_braced_37 ?_
    obtain ⟨fs0, hM0, hb0, hk0, hw⟩ := hw
    refine z_put hC hZ hM0 hb0 zc9 1 (by decide) q570 (fun _ h9 => h9) (by decide) rfl rfl hk0 dX10_braced_38 (fun H locs hZ => ?_)
    generalize zu M _ _ = M at hw hZ
    refine lv_aload_n hx hb dX10_braced_41 rfl (lv_at hl 2 rfl) ?_
    obtain ⟨⟨ci0, fs0, hci0, hM0⟩, hw⟩ := hw
    obtain rfl : ci0 = 9 := List.mem_singleton.mp hci0
    refine z_callI hZ (vx_runV (As := []) (rest := []) hC.fix (w_X10_here hlt hw) (cwV 0 hts (lw_V q613 q615 qs6 q86 q616) rfl rfl rfl ⟨rfl, dd_X10_here⟩ ⟨(show 1 + 1 ≤ 11 + 5 * d by omega), (show 8 + (1 + 11) + (64) ≤ 285 + 113 * d by omega)⟩) (z_preV hC hZ hM0 zc9) rfl rfl hl.1 rfl (lv_room (Nat.zero_le _)) dX10_braced_42 ⟨(show cells + 0 ≤ k by omega), (show slots + 0 ≤ n by omega)⟩) (fun r70 M H locs hw1 hZ => ?_) (fun q M H locs ci fs E T9 N9 hw hZ hc1 hM1 hb1 => False.elim hw)
    replace hw := hw1
    clear hw1
    refine W.cs (cells' := cells) (slots' := slots) rfl rfl ?_
    refine lv_istore_n (i := 3) (lv' := [(3, .int r70), (2, .int (r66 - (65 : Int32))), (1, .int g56), (0, .ref o)]) hx hb dX10_braced_45 rfl hl (by decide) rfl (fun ls hl1 => ?_)
    replace hl := hl1
    clear hl1
    refine lv_aload_n hx hb dX10_braced_46 rfl (lv_at hl 3 rfl) ?_
    refine lv_dup hx hb dX10_braced_47 rfl ?_
    obtain ⟨fs0, g73, hM0, hx0, hw⟩ := hw
    refine z_get hC hZ hM0 zc9 1 (by decide) q570 (fun _ h9 => h9) hx0 dX10_braced_48 ?_
    refine lv_iconst (v := 1) hx hb dX10_braced_51 (by decide) ?_
    refine lv_iadd hx hb dX10_braced_52 ?_
    obtain ⟨fs0, hM0, hb0, hk0, hw⟩ := hw
    refine z_put hC hZ hM0 hb0 zc9 1 (by decide) q570 (fun _ h9 => h9) (by decide) rfl rfl hk0 dX10_braced_53 (fun H locs hZ => ?_)
    generalize zu M _ _ = M at hw hZ
    refine lv_iload_n hx hb dX10_braced_56 rfl (lv_at hl 0 rfl) ?_
    by_cases e106 : r70 = 108
    · replace hw := hw.1 e106
      refine lv_lookup (tgt := 108) (off := 51) hx hb dX10_braced_57 (by decide) (by rw [e106]; decide) (by decide) ?_
      refine lv_aload_n hx hb dX10_braced_108 rfl (lv_at hl 3 rfl) ?_
      refine lv_iload_n hx hb dX10_braced_109 rfl (lv_at hl 1 rfl) ?_
      refine lv_iconst (v := 3) hx hb dX10_braced_110 (by decide) ?_
      refine lv_iload_n hx hb dX10_braced_111 rfl (lv_at hl 2 rfl) ?_
      obtain ⟨⟨ci0, fs0, hci0, hM0⟩, hw⟩ := hw
      obtain rfl : ci0 = 9 := List.mem_singleton.mp hci0
      refine z_callU hZ (vx_runV (As := [.int (r66 - (65 : Int32)), .int (3 : Int32), .int g56]) (rest := []) hC.fix (w_X10_uses hlt hw) (cwV 3 hts (lw_V q718 q720 qs12 q86 q721) rfl rfl rfl ⟨rfl, dd_X10_uses⟩ ⟨(show 3 + 1 ≤ 11 + 5 * d by omega), (show 8 + (4 + 11) + (106) ≤ 285 + 113 * d by omega)⟩) (z_preV hC hZ hM0 zc9) rfl rfl hl.1 rfl (lv_room (Nat.zero_le _)) dX10_braced_112 ⟨(show cells + 0 ≤ k by omega), (show slots + 0 ≤ n by omega)⟩) (fun r74 M H locs hw1 hZ => ?_) (fun q M H locs ci fs E T9 N9 hw hZ hc1 hM1 hb1 => False.elim hw)
      replace hw := hw1
      clear hw1
      refine W.cs (cells' := cells) (slots' := slots) rfl rfl ?_
      refine lv_aload_n hx hb dX10_braced_115 rfl (lv_at hl 3 rfl) ?_
      refine lv_bipush (v := 125) hx hb dX10_braced_116 (by decide) ?_
      obtain ⟨⟨ci0, fs0, hci0, hM0⟩, hw⟩ := hw
      obtain ⟨k78, n79, hk1, hn1, hw⟩ := hw
      obtain rfl : ci0 = 9 := List.mem_singleton.mp hci0
      refine z_callU hZ (vx_runV (As := [.int (125 : Int32)]) (rest := []) hC.fix (w_X10_wants hlt hw) (cwV 1 hts (lw_V q747 q749 qs14 q86 q750) rfl rfl rfl ⟨rfl, dd_X10_wants⟩ ⟨(show 7 + 1 ≤ 11 + 5 * d by omega), (show 8 + (2 + 11) + (198) ≤ 285 + 113 * d by omega)⟩) (z_preV hC hZ hM0 zc9) rfl rfl hl.1 rfl (lv_room (Nat.zero_le _)) dX10_braced_118 ⟨(show cells + k78 ≤ k by omega), (show slots + n79 ≤ n by omega)⟩) (fun r77 M H locs hw1 hZ => ?_) (fun q M H locs ci fs E T9 N9 hw1 hZ hc1 hM1 hb1 => ?_)
      · replace hw := hw1
        clear hw1
        have hk : cells + k78 + ((k - k64) - k78) ≤ k := by omega
        have hn : slots + n79 + ((n - n65) - n79) ≤ n := by omega
        generalize cells + k78 = cells at hk ⊢
        generalize slots + n79 = slots at hn ⊢
        clear hk1 hn1
        obtain ⟨hk1, hn1, hw⟩ := hw
        refine z_new (fs := [.int 0]) hC hZ zc15 q755 q756 q96 (zdefs (N := 1) (ty := tyX17) (fs := [.int 0]) (by decide)) (show cells + 1 ≤ k by omega) (show slots + 1 ≤ n by omega) dX10_braced_121 (fun b80 H hq0 hq1 hZ => ?_)
        replace hw := hw b80 hq0 hq1
        generalize zu M _ _ = M at hw hZ
        have hk : cells + 1 + (((k - k64) - k78) - 1) ≤ k := by omega
        have hn : slots + 1 + (((n - n65) - n79) - 1) ≤ n := by omega
        generalize cells + 1 = cells at hk ⊢
        generalize slots + 1 = slots at hn ⊢
        clear hk1 hn1
        refine lv_dup hx hb dX10_braced_124 rfl ?_
        refine lv_iload_n hx hb dX10_braced_125 rfl (lv_at hl 1 rfl) ?_
        refine z_callU hZ (vx_runI (As := [.int (r66 - (65 : Int32))]) (rest := [.ref b80]) hC.fix (w_X17_init hlt hw) (cwI 1 hts (lw_meth q759) rfl rfl rfl (hts _ q96) (hts _ q757) (hts _ q758) rfl dd_X17_init ⟨(show 3 + 1 ≤ 11 + 5 * d by omega), (show 8 + (2 + 11) + (105) ≤ 285 + 113 * d by omega)⟩) (z_preS hC hZ) rfl rfl hl.1 rfl (lv_room (Nat.le_trans (zrm1 rfl zrm0) (Nat.le_of_ble_eq_true rfl))) dX10_braced_126 ⟨(show cells + 0 ≤ k by omega), (show slots + 0 ≤ n by omega)⟩) (fun r81 M H locs hw1 hZ => ?_) (fun q M H locs ci fs E T9 N9 hw hZ hc1 hM1 hb1 => False.elim hw)
        replace hw := hw1
        clear hw1
        refine W.cs (cells' := cells) (slots' := slots) rfl rfl ?_
        exact z_aret (r := (some b80)) hG (Or.inl ⟨_, rfl⟩) hZ (by omega) (by omega) hw dX10_braced_129
      · replace hw := hw1
        clear hw1
        exact z_out hG hZ hM1 hb1 hc1 za0 (by omega) (by omega) hw
    by_cases e107 : r70 = 110
    · replace hw := hw.2.1 e107
      refine lv_lookup (tgt := 130) (off := 73) hx hb dX10_braced_57 (by decide) (by rw [e107]; decide) (by decide) ?_
      refine lv_aload_n hx hb dX10_braced_130 rfl (lv_at hl 3 rfl) ?_
      refine lv_iload_n hx hb dX10_braced_131 rfl (lv_at hl 1 rfl) ?_
      refine lv_iconst (v := 1) hx hb dX10_braced_132 (by decide) ?_
      refine lv_iload_n hx hb dX10_braced_133 rfl (lv_at hl 2 rfl) ?_
      obtain ⟨⟨ci0, fs0, hci0, hM0⟩, hw⟩ := hw
      obtain rfl : ci0 = 9 := List.mem_singleton.mp hci0
      refine z_callU hZ (vx_runV (As := [.int (r66 - (65 : Int32)), .int (1 : Int32), .int g56]) (rest := []) hC.fix (w_X10_uses hlt hw) (cwV 3 hts (lw_V q718 q720 qs12 q86 q721) rfl rfl rfl ⟨rfl, dd_X10_uses⟩ ⟨(show 3 + 1 ≤ 11 + 5 * d by omega), (show 8 + (4 + 11) + (106) ≤ 285 + 113 * d by omega)⟩) (z_preV hC hZ hM0 zc9) rfl rfl hl.1 rfl (lv_room (Nat.zero_le _)) dX10_braced_134 ⟨(show cells + 0 ≤ k by omega), (show slots + 0 ≤ n by omega)⟩) (fun r84 M H locs hw1 hZ => ?_) (fun q M H locs ci fs E T9 N9 hw hZ hc1 hM1 hb1 => False.elim hw)
      replace hw := hw1
      clear hw1
      refine W.cs (cells' := cells) (slots' := slots) rfl rfl ?_
      obtain ⟨hk1, hn1, hw⟩ := hw
      refine z_new (fs := [.int 0, .null]) hC hZ zc16 q763 q764 q97 (zdefs (N := 2) (ty := tyX18) (fs := [.int 0, .null]) (by decide)) (show cells + 1 ≤ k by omega) (show slots + 2 ≤ n by omega) dX10_braced_137 (fun b87 H hq0 hq1 hZ => ?_)
      replace hw := hw b87 hq0 hq1
      generalize zu M _ _ = M at hw hZ
      have hk : cells + 1 + ((k - k64) - 1) ≤ k := by omega
      have hn : slots + 2 + ((n - n65) - 2) ≤ n := by omega
      generalize cells + 1 = cells at hk ⊢
      generalize slots + 2 = slots at hn ⊢
      clear hk1 hn1
      refine lv_dup hx hb dX10_braced_140 rfl ?_
      refine lv_iload_n hx hb dX10_braced_141 rfl (lv_at hl 1 rfl) ?_
      refine lv_aload_n hx hb dX10_braced_142 rfl (lv_at hl 3 rfl) ?_
      obtain ⟨⟨ci0, fs0, hci0, hM0⟩, hw⟩ := hw
      obtain ⟨k89, n90, hk1, hn1, hw⟩ := hw
      obtain rfl : ci0 = 9 := List.mem_singleton.mp hci0
      refine z_callR hZ (vx_runV (As := []) (rest := [.int (r66 - (65 : Int32)), .ref b87, .ref b87]) hC.fix (w_X10_pattern hlt hw) (cwV 0 hts (lw_V q765 q767 qs16 q86 q768) rfl rfl rfl ⟨rfl, dd_X10_pattern⟩ ⟨(show 8 + 1 ≤ 11 + 5 * d by omega), (show 8 + (5 + 11) + (219) ≤ 285 + 113 * d by omega)⟩) (z_preV hC hZ hM0 zc9) rfl rfl hl.1 rfl (lv_room (Nat.le_trans (zrm1 rfl (zrm1 rfl (zrm1 rfl zrm0))) (Nat.le_of_ble_eq_true rfl))) dX10_braced_143 ⟨(show cells + k89 ≤ k by omega), (show slots + n90 ≤ n by omega)⟩) (fun r88 M H locs hw1 hZ => ?_) (fun q M H locs ci fs E T9 N9 hw1 hZ hc1 hM1 hb1 => ?_)
      · replace hw := hw1
        clear hw1
        have hk : cells + k89 + (((k - k64) - 1) - k89) ≤ k := by omega
        have hn : slots + n90 + (((n - n65) - 2) - n90) ≤ n := by omega
        generalize cells + k89 = cells at hk ⊢
        generalize slots + n90 = slots at hn ⊢
        clear hk1 hn1
        refine z_callU hZ (vx_runI (As := [.int (r66 - (65 : Int32)), va_rf r88]) (rest := [.ref b87]) hC.fix (w_X18_init hlt hw) (cwI 2 hts (lw_meth q798) rfl rfl rfl (hts _ q97) (hts _ q796) (hts _ q797) rfl dd_X18_init ⟨(show 3 + 1 ≤ 11 + 5 * d by omega), (show 8 + (3 + 11) + (105) ≤ 285 + 113 * d by omega)⟩) (z_preS hC hZ) rfl rfl hl.1 rfl (lv_room (Nat.le_trans (zrm1 rfl zrm0) (Nat.le_of_ble_eq_true rfl))) dX10_braced_146 ⟨(show cells + 0 ≤ k by omega), (show slots + 0 ≤ n by omega)⟩) (fun r91 M H locs hw1 hZ => ?_) (fun q M H locs ci fs E T9 N9 hw hZ hc1 hM1 hb1 => False.elim hw)
        replace hw := hw1
        clear hw1
        refine W.cs (cells' := cells) (slots' := slots) rfl rfl ?_
        exact z_aret (r := (some b87)) hG (Or.inl ⟨_, rfl⟩) hZ (by omega) (by omega) hw dX10_braced_149
      · replace hw := hw1
        clear hw1
        exact z_out hG hZ hM1 hb1 hc1 za0 (by omega) (by omega) hw
    by_cases e108 : r70 = 125
    · replace hw := hw.2.2.1 e108
      refine lv_lookup (tgt := 92) (off := 35) hx hb dX10_braced_57 (by decide) (by rw [e108]; decide) (by decide) ?_
      refine lv_aload_n hx hb dX10_braced_92 rfl (lv_at hl 3 rfl) ?_
      refine lv_iload_n hx hb dX10_braced_93 rfl (lv_at hl 1 rfl) ?_
      refine lv_iconst (v := 0) hx hb dX10_braced_94 (by decide) ?_
      refine lv_iload_n hx hb dX10_braced_95 rfl (lv_at hl 2 rfl) ?_
      obtain ⟨⟨ci0, fs0, hci0, hM0⟩, hw⟩ := hw
      obtain rfl : ci0 = 9 := List.mem_singleton.mp hci0
      refine z_callU hZ (vx_runV (As := [.int (r66 - (65 : Int32)), .int (0 : Int32), .int g56]) (rest := []) hC.fix (w_X10_uses hlt hw) (cwV 3 hts (lw_V q718 q720 qs12 q86 q721) rfl rfl rfl ⟨rfl, dd_X10_uses⟩ ⟨(show 3 + 1 ≤ 11 + 5 * d by omega), (show 8 + (4 + 11) + (106) ≤ 285 + 113 * d by omega)⟩) (z_preV hC hZ hM0 zc9) rfl rfl hl.1 rfl (lv_room (Nat.zero_le _)) dX10_braced_96 ⟨(show cells + 0 ≤ k by omega), (show slots + 0 ≤ n by omega)⟩) (fun r94 M H locs hw1 hZ => ?_) (fun q M H locs ci fs E T9 N9 hw hZ hc1 hM1 hb1 => False.elim hw)
      replace hw := hw1
      clear hw1
      refine W.cs (cells' := cells) (slots' := slots) rfl rfl ?_
      obtain ⟨hk1, hn1, hw⟩ := hw
      refine z_new (fs := [.int 0]) hC hZ zc14 q727 q728 q95 (zdefs (N := 1) (ty := tyX16) (fs := [.int 0]) (by decide)) (show cells + 1 ≤ k by omega) (show slots + 1 ≤ n by omega) dX10_braced_99 (fun b97 H hq0 hq1 hZ => ?_)
      replace hw := hw b97 hq0 hq1
      generalize zu M _ _ = M at hw hZ
      have hk : cells + 1 + ((k - k64) - 1) ≤ k := by omega
      have hn : slots + 1 + ((n - n65) - 1) ≤ n := by omega
      generalize cells + 1 = cells at hk ⊢
      generalize slots + 1 = slots at hn ⊢
      clear hk1 hn1
      refine lv_dup hx hb dX10_braced_102 rfl ?_
      refine lv_iload_n hx hb dX10_braced_103 rfl (lv_at hl 1 rfl) ?_
      refine z_callU hZ (vx_runI (As := [.int (r66 - (65 : Int32))]) (rest := [.ref b97]) hC.fix (w_X16_init hlt hw) (cwI 1 hts (lw_meth q731) rfl rfl rfl (hts _ q95) (hts _ q729) (hts _ q730) rfl dd_X16_init ⟨(show 2 + 1 ≤ 11 + 5 * d by omega), (show 8 + (2 + 11) + (84) ≤ 285 + 113 * d by omega)⟩) (z_preS hC hZ) rfl rfl hl.1 rfl (lv_room (Nat.le_trans (zrm1 rfl zrm0) (Nat.le_of_ble_eq_true rfl))) dX10_braced_104 ⟨(show cells + 0 ≤ k by omega), (show slots + 0 ≤ n by omega)⟩) (fun r98 M H locs hw1 hZ => ?_) (fun q M H locs ci fs E T9 N9 hw hZ hc1 hM1 hb1 => False.elim hw)
      replace hw := hw1
      clear hw1
      refine W.cs (cells' := cells) (slots' := slots) rfl rfl ?_
      exact z_aret (r := (some b97)) hG (Or.inl ⟨_, rfl⟩) hZ (by omega) (by omega) hw dX10_braced_107
    replace hw := hw.2.2.2 ⟨e106, e107, e108⟩
    refine lv_lookup (tgt := 150) (off := 93) hx hb dX10_braced_57 (by decide) (by rw [lv_osw e106 (by decide), lv_osw e107 (by decide), lv_osw e108 (by decide)]; rfl) (by decide) ?_
    refine lv_aload_n hx hb dX10_braced_150 rfl (lv_at hl 3 rfl) ?_
    refine lv_dup hx hb dX10_braced_151 rfl ?_
    obtain ⟨fs0, g101, hM0, hx0, hw⟩ := hw
    refine z_get hC hZ hM0 zc9 1 (by decide) q570 (fun _ h9 => h9) hx0 dX10_braced_152 ?_
    refine lv_iconst (v := 1) hx hb dX10_braced_155 (by decide) ?_
    refine lv_isub hx hb dX10_braced_156 ?_
    obtain ⟨fs0, hM0, hb0, hk0, hw⟩ := hw
    refine z_put hC hZ hM0 hb0 zc9 1 (by decide) q570 (fun _ h9 => h9) (by decide) rfl rfl hk0 dX10_braced_157 (fun H locs hZ => ?_)
    generalize zu M _ _ = M at hw hZ
    refine lv_aload_n hx hb dX10_braced_160 rfl (lv_at hl 3 rfl) ?_
    refine lv_iload_n hx hb dX10_braced_161 rfl (lv_at hl 1 rfl) ?_
    refine lv_iload_n hx hb dX10_braced_162 rfl (lv_at hl 0 rfl) ?_
    refine lv_iload_n hx hb dX10_braced_163 rfl (lv_at hl 2 rfl) ?_
    obtain ⟨⟨ci0, fs0, hci0, hM0⟩, hw⟩ := hw
    obtain ⟨k103, n104, hk1, hn1, hw⟩ := hw
    obtain rfl : ci0 = 9 := List.mem_singleton.mp hci0
    refine z_callR hZ (vx_runV (As := [.int (r66 - (65 : Int32)), .int r70, .int g56]) (rest := []) hC.fix (w_X10_choice hlt hP hw) (cwV 3 hts (lw_V q805 q807 qs18 q86 q808) rfl rfl rfl ⟨rfl, dd_X10_choice⟩ ⟨(show 10 + 5 * d + 1 ≤ 11 + 5 * d by omega), (show 8 + (5 + 11) + (261 + 113 * d) ≤ 285 + 113 * d by omega)⟩) (z_preV hC hZ hM0 zc9) rfl rfl hl.1 rfl (lv_room (Nat.zero_le _)) dX10_braced_164 ⟨(show cells + k103 ≤ k by omega), (show slots + n104 ≤ n by omega)⟩) (fun r102 M H locs hw1 hZ => ?_) (fun q M H locs ci fs E T9 N9 hw1 hZ hc1 hM1 hb1 => ?_)
    · replace hw := hw1
      clear hw1
      have hk : cells + k103 + ((k - k64) - k103) ≤ k := by omega
      have hn : slots + n104 + ((n - n65) - n104) ≤ n := by omega
      generalize cells + k103 = cells at hk ⊢
      generalize slots + n104 = slots at hn ⊢
      clear hk1 hn1
      exact z_aret (r := r102) hG (Or.inl ⟨_, rfl⟩) hZ (by omega) (by omega) hw dX10_braced_167
    · replace hw := hw1
      clear hw1
      exact z_out hG hZ hM1 hb1 hc1 za0 (by omega) (by omega) hw
  · replace hw := hw1
    clear hw1
    exact z_out hG hZ hM1 hb1 hc1 za0 (by omega) (by omega) hw
abbrev rm_X24_init : Room := { frames := 2, cells := 0, slots := 0, locals := 84 }
def wp_X24_init (D : zD) (post : Unit → zM → Prop) (o : Nat) (a0 : Int32) (M : zM) : Prop :=
    (wp_X13_init D (fun _ M => (zp D M o 21 0 (.int a0) fun M => post () M)) o M)
set_option maxHeartbeats 4000000 in
set_option maxRecDepth 100000 in
theorem w_X24_init {l : Launch} {D : zD} {post : Unit → zM → Prop} (hlt : l.stackTraces = false) {o : Nat} {a0 : Int32} {M : zM} (hw : wp_X24_init D post o a0 M) : zMet l D yX24_init (ws_ yX24_init cX24_init 2 (none)) rm_X24_init 0 0 [.ref o, .int a0] M zU post (fun _ _ => False) := by
  unfold wp_X24_init at hw
  have hlv : lv_args 0 [.ref o, .int a0] = [(0, .ref o), (1, .int a0)] := (zargs1 rfl (zargs1 rfl rfl))
  refine z_ofW hlt (by decide) (Nat.le_trans (zsl1 rfl (zsl1 rfl (Nat.le_refl 0 : (lg_sl []).length ≤ 0))) (Nat.le_of_ble_eq_true rfl)) hlv ?_
  intro p e s m args below meth c ls hG hZ hl
  have hC := hG.1
  have hx := hC.x
  have hb := hC.b
  have hown := hC.o
  have hts := hC.ts
  have hlt := hG.2.2.2.2.2
  obtain ⟨cells, hce⟩ : ∃ z : Nat, z = 0 := ⟨0, rfl⟩
  obtain ⟨slots, hsl⟩ : ∃ z : Nat, z = 0 := ⟨0, rfl⟩
  refine W.cs (cells' := cells) (slots' := slots) hce.symm hsl.symm ?_
  have hk : cells ≤ 0 := Nat.le_of_eq hce
  have hn : slots ≤ 0 := Nat.le_of_eq hsl
  clear hce hsl
  refine lv_aload_n hx hb dX24_init_0 rfl (lv_at hl 0 rfl) ?_
  refine z_callU hZ (vx_runIN (As := []) (rest := []) hC.fix (w_X13_init hlt hw) ⟨va_cnB 0 hts (lw_meth q631) rfl rfl rfl (hC.nw q996 rfl) (hts _ q89) dd_X13_init ⟨Nat.le_of_ble_eq_true rfl, Nat.le_of_ble_eq_true rfl⟩, rfl, hts _ q630⟩ (z_preS hC hZ) rfl rfl hl.1 rfl (lv_room (Nat.zero_le _)) dX24_init_1 ⟨hk, hn⟩) (fun r5 M H locs hw1 hZ => ?_) (fun q M H locs ci fs E T9 N9 hw hZ hc1 hM1 hb1 => False.elim hw)
  replace hw := hw1
  clear hw1
  refine W.cs (cells' := cells) (slots' := slots) rfl rfl ?_
  refine lv_aload_n hx hb dX24_init_4 rfl (lv_at hl 0 rfl) ?_
  refine lv_iload_n hx hb dX24_init_5 rfl (lv_at hl 1 rfl) ?_
  obtain ⟨fs0, hM0, hb0, hk0, hw⟩ := hw
  refine z_putF hC hZ hM0 hb0 zc21 0 (by decide) q997 (fun _ h9 => h9) (by decide) hG.2.2.2.1 rfl rfl rfl hk0 dX24_init_6 (fun H locs hZ => ?_)
  generalize zu M _ _ = M at hw hZ
  exact z_vret hG hZ hk hn hw dX24_init_9
def wp_X10_part_L52 (D : zD) (P : (Option Nat → zM → Prop) → (Nat → zM → Prop) → Nat → Nat → Nat → zM → Prop) (post : Option Nat → zM → Prop) (xp : Nat → zM → Prop) (o : Nat) (k : Nat) (n : Nat) (y0 : Option Nat) (M : zM) : Prop :=
    post y0 M
set_option maxHeartbeats 4000000 in
set_option maxRecDepth 100000 in
theorem wk_X10_part_L52 {p : Program} {l : Launch} {e : Env} {s : State} {m : MethodId} {args : Array Value} {below : List Frame} {meth : Method} {c : Code} {D : zD} {P : (Option Nat → zM → Prop) → (Nat → zM → Prop) → Nat → Nat → Nat → zM → Prop} {post : Option Nat → zM → Prop} {xp : Nat → zM → Prop} {K N : Nat} {d : Nat} {o : Nat} (hG : zGx p l s m args meth c cX10_part 2 "PluralBranches$Reader" D (some (.object "PluralBranches$Part")) "part" []) (hP : ∀ (post : Option Nat → zM → Prop) (xp : Nat → zM → Prop) (k n : Nat) (o : Nat) (M : zM), P post xp k n o M → zMet l D yX10_parts (ws_ yX10_parts cX10_parts 2 (some (.object "PluralBranches$Parts"))) (rm_X10_parts d k n) k n [.ref o] M zR post xp) : ∀ {H : Heap} {locs : List Loc} {cells slots : Nat} {ls : Array Slot} (k : Nat) (n : Nat) (y0 : Option Nat) (M : zM), cells + k ≤ K → slots + n ≤ N → zS D M H locs → lv_has ls 2 [] → wp_X10_part_L52 D P post xp o k n y0 M → W p l e (rm_X10_part d K N) s m args below meth c H locs cells slots (vx_MQ below (zQ D zR post) (zX D xp) args s K N (zA D)) (F0 m 52 ls [va_rf y0]) := by
  have hC := hG.1
  have hx := hC.x
  have hb := hC.b
  have hown := hC.o
  have hts := hC.ts
  have hlt := hG.2.2.2.2.2
  intro H locs cells slots ls k n y0 M hk hn hZ hl hw
  exact z_aret (r := y0) hG (Or.inl ⟨_, rfl⟩) hZ (by omega) (by omega) hw dX10_part_52
def wp_X10_part (D : zD) (P : (Option Nat → zM → Prop) → (Nat → zM → Prop) → Nat → Nat → Nat → zM → Prop) (post : Option Nat → zM → Prop) (xp : Nat → zM → Prop) (k : Nat) (n : Nat) (o : Nat) (M : zM) : Prop :=
    ((zis M o [9] ∧ wp_X10_here D (fun r1 M => (zgI M o 9 1 fun g4 => (zp D M o 9 1 (.int (g4 + (1 : Int32))) fun M => ((¬ r1 = (35 : Int32) → ((¬ r1 = (123 : Int32) → (znew D M 21 1 [.int 0] k n fun b5 M => (wp_X24_init D (fun _ M => wp_X10_part_L52 D P post xp o (k - 1) (n - 1) (some b5) M) b5 r1 M))) ∧ (r1 = (123 : Int32) → ((zis M o [9] ∧ (∃ k10 n11, k10 ≤ k ∧ n11 ≤ n ∧ wp_X10_braced D P (fun r9 M => wp_X10_part_L52 D P post xp o (k - k10) (n - n11) r9 M) xp k10 n11 o M)))))) ∧ (r1 = (35 : Int32) → (znew D M 12 0 [] k n fun b13 M => (wp_X14_init D (fun _ M => wp_X10_part_L52 D P post xp o (k - 1) (n - 0) (some b13) M) b13 M))))))) o M))
set_option maxHeartbeats 4000000 in
set_option maxRecDepth 100000 in
theorem w_X10_part {l : Launch} {D : zD} {post : Option Nat → zM → Prop} {xp : Nat → zM → Prop} {P : (Option Nat → zM → Prop) → (Nat → zM → Prop) → Nat → Nat → Nat → zM → Prop} {d : Nat} (hlt : l.stackTraces = false) (hP : ∀ (post : Option Nat → zM → Prop) (xp : Nat → zM → Prop) (k n : Nat) (o : Nat) (M : zM), P post xp k n o M → zMet l D yX10_parts (ws_ yX10_parts cX10_parts 2 (some (.object "PluralBranches$Parts"))) (rm_X10_parts d k n) k n [.ref o] M zR post xp) {k : Nat} {n : Nat} {o : Nat} {M : zM} (hw : wp_X10_part D P post xp k n o M) : zMet l D yX10_part (ws_ yX10_part cX10_part 2 (some (.object "PluralBranches$Part"))) (rm_X10_part d k n) k n [.ref o] M zR post xp := by
  unfold wp_X10_part at hw
  have hlv : lv_args 0 [.ref o] = [(0, .ref o)] := (zargs1 rfl rfl)
  refine z_ofW hlt (by decide) (Nat.le_trans (zsl1 rfl (Nat.le_refl 0 : (lg_sl []).length ≤ 0)) (Nat.le_of_ble_eq_true rfl)) hlv ?_
  intro p e s m args below meth c ls hG hZ hl
  have hC := hG.1
  have hx := hC.x
  have hb := hC.b
  have hown := hC.o
  have hts := hC.ts
  have hlt := hG.2.2.2.2.2
  obtain ⟨cells, hce⟩ : ∃ z : Nat, z = 0 := ⟨0, rfl⟩
  obtain ⟨slots, hsl⟩ : ∃ z : Nat, z = 0 := ⟨0, rfl⟩
  refine W.cs (cells' := cells) (slots' := slots) hce.symm hsl.symm ?_
  have hk : cells + k ≤ k := by omega
  have hn : slots + n ≤ n := by omega
  clear hce hsl
  refine lv_aload_n hx hb dX10_part_0 rfl (lv_at hl 0 rfl) ?_
  obtain ⟨⟨ci0, fs0, hci0, hM0⟩, hw⟩ := hw
  obtain rfl : ci0 = 9 := List.mem_singleton.mp hci0
  refine z_callI hZ (vx_runV (As := []) (rest := []) hC.fix (w_X10_here hlt hw) (cwV 0 hts (lw_V q613 q615 qs6 q86 q616) rfl rfl rfl ⟨rfl, dd_X10_here⟩ ⟨(show 1 + 1 ≤ 12 + 5 * d by omega), (show 8 + (1 + 11) + (64) ≤ 308 + 113 * d by omega)⟩) (z_preV hC hZ hM0 zc9) rfl rfl hl.1 rfl (lv_room (Nat.zero_le _)) dX10_part_1 ⟨(show cells + 0 ≤ k by omega), (show slots + 0 ≤ n by omega)⟩) (fun r19 M H locs hw1 hZ => ?_) (fun q M H locs ci fs E T9 N9 hw hZ hc1 hM1 hb1 => False.elim hw)
  replace hw := hw1
  clear hw1
  refine W.cs (cells' := cells) (slots' := slots) rfl rfl ?_
  refine lv_istore_n (i := 1) (lv' := [(1, .int r19), (0, .ref o)]) hx hb dX10_part_4 rfl hl (by decide) rfl (fun ls hl1 => ?_)
  replace hl := hl1
  clear hl1
  refine lv_aload_n hx hb dX10_part_5 rfl (lv_at hl 1 rfl) ?_
  refine lv_dup hx hb dX10_part_6 rfl ?_
  obtain ⟨fs0, g22, hM0, hx0, hw⟩ := hw
  refine z_get hC hZ hM0 zc9 1 (by decide) q570 (fun _ h9 => h9) hx0 dX10_part_7 ?_
  refine lv_iconst (v := 1) hx hb dX10_part_10 (by decide) ?_
  refine lv_iadd hx hb dX10_part_11 ?_
  obtain ⟨fs0, hM0, hb0, hk0, hw⟩ := hw
  refine z_put hC hZ hM0 hb0 zc9 1 (by decide) q570 (fun _ h9 => h9) (by decide) rfl rfl hk0 dX10_part_12 (fun H locs hZ => ?_)
  generalize zu M _ _ = M at hw hZ
  refine lv_iload_n hx hb dX10_part_15 rfl (lv_at hl 0 rfl) ?_
  refine lv_bipush (v := 35) hx hb dX10_part_16 (by decide) ?_
  refine lv_icmp_ne (tgt := 31) hx hb dX10_part_18 (by decide) (fun c35 => ?_) (fun c35 => ?_)
  · replace hw := hw.1 c35
    refine lv_iload_n hx hb dX10_part_31 rfl (lv_at hl 0 rfl) ?_
    refine lv_bipush (v := 123) hx hb dX10_part_32 (by decide) ?_
    refine lv_icmp_ne (tgt := 44) hx hb dX10_part_34 (by decide) (fun c30 => ?_) (fun c30 => ?_)
    · replace hw := hw.1 c30
      obtain ⟨hk1, hn1, hw⟩ := hw
      refine z_new (fs := [.int 0]) hC hZ zc21 q991 q992 q107 (zdefs (N := 1) (ty := tyX24) (fs := [.int 0]) (by decide)) (show cells + 1 ≤ k by omega) (show slots + 1 ≤ n by omega) dX10_part_44 (fun b23 H hq0 hq1 hZ => ?_)
      replace hw := hw b23 hq0 hq1
      generalize zu M _ _ = M at hw hZ
      have hk : cells + 1 + (k - 1) ≤ k := by omega
      have hn : slots + 1 + (n - 1) ≤ n := by omega
      generalize cells + 1 = cells at hk ⊢
      generalize slots + 1 = slots at hn ⊢
      clear hk1 hn1
      refine lv_dup hx hb dX10_part_47 rfl ?_
      refine lv_iload_n hx hb dX10_part_48 rfl (lv_at hl 0 rfl) ?_
      refine z_callU hZ (vx_runI (As := [.int r19]) (rest := [.ref b23]) hC.fix (w_X24_init hlt hw) (cwI 1 hts (lw_meth q995) rfl rfl rfl (hts _ q107) (hts _ q993) (hts _ q994) rfl dd_X24_init ⟨(show 2 + 1 ≤ 12 + 5 * d by omega), (show 8 + (2 + 11) + (84) ≤ 308 + 113 * d by omega)⟩) (z_preS hC hZ) rfl rfl hl.1 rfl (lv_room (Nat.le_trans (zrm1 rfl zrm0) (Nat.le_of_ble_eq_true rfl))) dX10_part_49 ⟨(show cells + 0 ≤ k by omega), (show slots + 0 ≤ n by omega)⟩) (fun r24 M H locs hw1 hZ => ?_) (fun q M H locs ci fs E T9 N9 hw hZ hc1 hM1 hb1 => False.elim hw)
      replace hw := hw1
      clear hw1
      refine W.cs (cells' := cells) (slots' := slots) rfl rfl ?_
      exact wk_X10_part_L52 hG hP _ _ _ _ hk hn hZ (lv_sub hl [] rfl) hw
    · replace hw := hw.2 c30
      refine lv_aload_n hx hb dX10_part_37 rfl (lv_at hl 1 rfl) ?_
      obtain ⟨⟨ci0, fs0, hci0, hM0⟩, hw⟩ := hw
      obtain ⟨k28, n29, hk1, hn1, hw⟩ := hw
      obtain rfl : ci0 = 9 := List.mem_singleton.mp hci0
      refine z_callR hZ (vx_runV (As := []) (rest := []) hC.fix (w_X10_braced hlt hP hw) (cwV 0 hts (lw_V q634 q636 qs8 q86 q637) rfl rfl rfl ⟨rfl, dd_X10_braced⟩ ⟨(show 11 + 5 * d + 1 ≤ 12 + 5 * d by omega), (show 8 + (4 + 11) + (285 + 113 * d) ≤ 308 + 113 * d by omega)⟩) (z_preV hC hZ hM0 zc9) rfl rfl hl.1 rfl (lv_room (Nat.zero_le _)) dX10_part_38 ⟨(show cells + k28 ≤ k by omega), (show slots + n29 ≤ n by omega)⟩) (fun r27 M H locs hw1 hZ => ?_) (fun q M H locs ci fs E T9 N9 hw1 hZ hc1 hM1 hb1 => ?_)
      · replace hw := hw1
        clear hw1
        have hk : cells + k28 + (k - k28) ≤ k := by omega
        have hn : slots + n29 + (n - n29) ≤ n := by omega
        generalize cells + k28 = cells at hk ⊢
        generalize slots + n29 = slots at hn ⊢
        clear hk1 hn1
        refine lv_goto (tgt := 52) hx hb dX10_part_41 (by decide) ?_
        exact wk_X10_part_L52 hG hP _ _ _ _ hk hn hZ (lv_sub hl [] rfl) hw
      · replace hw := hw1
        clear hw1
        exact z_out hG hZ hM1 hb1 hc1 za0 (by omega) (by omega) hw
  · replace hw := hw.2 c35
    obtain ⟨hk1, hn1, hw⟩ := hw
    refine z_new (fs := []) hC hZ zc12 q624 q625 q90 (fun j hj => absurd hj (Nat.not_lt_zero j)) (show cells + 1 ≤ k by omega) (show slots + 0 ≤ n by omega) dX10_part_21 (fun b31 H hq0 hq1 hZ => ?_)
    replace hw := hw b31 hq0 hq1
    generalize zu M _ _ = M at hw hZ
    have hk : cells + 1 + (k - 1) ≤ k := by omega
    have hn : slots + 0 + (n - 0) ≤ n := by omega
    generalize cells + 1 = cells at hk ⊢
    generalize slots + 0 = slots at hn ⊢
    clear hk1 hn1
    refine lv_dup hx hb dX10_part_24 rfl ?_
    refine z_callU hZ (vx_runIN (As := []) (rest := [.ref b31]) hC.fix (w_X14_init hlt hw) ⟨va_cnB 0 hts (lw_meth q628) rfl rfl rfl (hC.nw q626 rfl) (hts _ q90) dd_X14_init ⟨(show 2 + 1 ≤ 12 + 5 * d by omega), (show 8 + (1 + 11) + (84) ≤ 308 + 113 * d by omega)⟩, rfl, hts _ q627⟩ (z_preS hC hZ) rfl rfl hl.1 rfl (lv_room (Nat.le_trans (zrm1 rfl zrm0) (Nat.le_of_ble_eq_true rfl))) dX10_part_25 ⟨(show cells + 0 ≤ k by omega), (show slots + 0 ≤ n by omega)⟩) (fun r32 M H locs hw1 hZ => ?_) (fun q M H locs ci fs E T9 N9 hw hZ hc1 hM1 hb1 => False.elim hw)
    replace hw := hw1
    clear hw1
    refine W.cs (cells' := cells) (slots' := slots) rfl rfl ?_
    refine lv_goto (tgt := 52) hx hb dX10_part_28 (by decide) ?_
    exact wk_X10_part_L52 hG hP _ _ _ _ hk hn hZ (lv_sub hl [] rfl) hw
def wp_X10_parts_L40 (D : zD) (P : (Option Nat → zM → Prop) → (Nat → zM → Prop) → Nat → Nat → Nat → zM → Prop) (post : Option Nat → zM → Prop) (xp : Nat → zM → Prop) (o : Nat) (k8 : Nat → Nat → Option Nat → zM → Prop) (k : Nat) (n : Nat) (x1 : Option Nat) (M : zM) : Prop :=
    (zgR M o 9 0 fun g1 => ((zd g1 fun b2 => zgI M b2 10 1 fun g3 => (zp D M b2 10 1 (.int (g3 + (1 : Int32))) fun M => ((zd x1 fun b4 => zgR M b4 11 0 fun g5 => ((zis M o [9] ∧ (∃ k7 n8, k7 ≤ k ∧ n8 ≤ n ∧ wp_X10_part D P (fun r6 M => ((zd g5 fun b9 => (zis M b9 [26] ∧ (∃ k11 n12, k11 ≤ (k - k7) ∧ n12 ≤ (n - n8) ∧ wp_J3_add D (fun r10 M => k8 ((k - k7) - k11) ((n - n8) - n12) (some b4) M) k11 n12 b9 r6 M))))) xp k7 n8 o M)))))))))
set_option maxHeartbeats 4000000 in
set_option maxRecDepth 100000 in
theorem wk_X10_parts_L40 {p : Program} {l : Launch} {e : Env} {s : State} {m : MethodId} {args : Array Value} {below : List Frame} {meth : Method} {c : Code} {D : zD} {P : (Option Nat → zM → Prop) → (Nat → zM → Prop) → Nat → Nat → Nat → zM → Prop} {post : Option Nat → zM → Prop} {xp : Nat → zM → Prop} {K N : Nat} {d : Nat} {o : Nat} (hG : zGx p l s m args meth c cX10_parts 2 "PluralBranches$Reader" D (some (.object "PluralBranches$Parts")) "parts" []) (hP : ∀ (post : Option Nat → zM → Prop) (xp : Nat → zM → Prop) (k n : Nat) (o : Nat) (M : zM), P post xp k n o M → zMet l D yX10_parts (ws_ yX10_parts cX10_parts 2 (some (.object "PluralBranches$Parts"))) (rm_X10_parts d k n) k n [.ref o] M zR post xp) (k8 : Nat → Nat → Option Nat → zM → Prop) (hk8 : ∀ {H : Heap} {locs : List Loc} {cells slots : Nat} {ls : Array Slot} (k : Nat) (n : Nat) (x1 : Option Nat) (M : zM), cells + k ≤ K → slots + n ≤ N → zS D M H locs → lv_has ls 2 [(0, .ref o), (1, va_rf x1)] → k8 k n x1 M → W p l e (rm_X10_parts (d + 1) K N) s m args below meth c H locs cells slots (vx_MQ below (zQ D zR post) (zX D xp) args s K N (zA D)) (F0 m 8 ls [])) : ∀ {H : Heap} {locs : List Loc} {cells slots : Nat} {ls : Array Slot} (k : Nat) (n : Nat) (x1 : Option Nat) (M : zM), cells + k ≤ K → slots + n ≤ N → zS D M H locs → lv_has ls 2 [(0, .ref o), (1, va_rf x1)] → wp_X10_parts_L40 D P post xp o k8 k n x1 M → W p l e (rm_X10_parts (d + 1) K N) s m args below meth c H locs cells slots (vx_MQ below (zQ D zR post) (zX D xp) args s K N (zA D)) (F0 m 40 ls []) := by
  have hC := hG.1
  have hx := hC.x
  have hb := hC.b
  have hown := hC.o
  have hts := hC.ts
  have hlt := hG.2.2.2.2.2
  intro H locs cells slots ls k n x1 M hk hn hZ hl hw
  refine lv_aload_n hx hb dX10_parts_40 rfl (lv_at hl 0 rfl) ?_
  obtain ⟨fs0, g14, hM0, hx0, hw⟩ := hw
  refine z_get hC hZ hM0 zc9 0 (by decide) q569 (fun _ h9 => h9) hx0 dX10_parts_41 ?_
  refine lv_dup hx hb dX10_parts_44 (zcat _) ?_
  obtain ⟨b15, hr0, hw⟩ := hw
  subst hr0
  obtain ⟨fs0, g16, hM0, hx0, hw⟩ := hw
  refine z_getN hC hZ hM0 zc10 1 (by decide) q548 (fun _ h9 => h9) hx0 dX10_parts_45 ?_
  refine lv_iconst (v := 1) hx hb dX10_parts_48 (by decide) ?_
  refine lv_iadd hx hb dX10_parts_49 ?_
  obtain ⟨fs0, hM0, hb0, hk0, hw⟩ := hw
  refine z_putN hC hZ hM0 hb0 zc10 1 (by decide) q548 (fun _ h9 => h9) (by decide) rfl rfl hk0 dX10_parts_50 (fun H locs hZ => ?_)
  generalize zu M _ _ = M at hw hZ
  refine z_aload_n hC dX10_parts_53 rfl (lv_at hl 1 rfl) ?_
  obtain ⟨b17, hr0, hw⟩ := hw
  subst hr0
  obtain ⟨fs0, g18, hM0, hx0, hw⟩ := hw
  refine z_getN hC hZ hM0 zc11 0 (by decide) q605 (fun _ h9 => h9) hx0 dX10_parts_54 ?_
  refine lv_aload_n hx hb dX10_parts_57 rfl (lv_at hl 0 rfl) ?_
  obtain ⟨⟨ci0, fs0, hci0, hM0⟩, hw⟩ := hw
  obtain ⟨k20, n21, hk1, hn1, hw⟩ := hw
  obtain rfl : ci0 = 9 := List.mem_singleton.mp hci0
  refine z_callR hZ (vx_runV (As := []) (rest := [va_rf g18]) hC.fix (w_X10_part hlt hP hw) (cwV 0 hts (lw_V q620 q622 qs7 q86 q623) rfl rfl rfl ⟨rfl, dd_X10_part⟩ ⟨(show 12 + 5 * d + 1 ≤ 8 + 5 * (d + 1) by omega), (show 8 + (2 + 11) + (308 + 113 * d) ≤ 216 + 113 * (d + 1) by omega)⟩) (z_preV hC hZ hM0 zc9) rfl rfl hl.1 rfl (lv_room (Nat.le_trans (zrm1 (zcat _) zrm0) (Nat.le_of_ble_eq_true rfl))) dX10_parts_58 ⟨(show cells + k20 ≤ K by omega), (show slots + n21 ≤ N by omega)⟩) (fun r19 M H locs hw1 hZ => ?_) (fun q M H locs ci fs E T9 N9 hw1 hZ hc1 hM1 hb1 => ?_)
  · replace hw := hw1
    clear hw1
    have hk : cells + k20 + (k - k20) ≤ K := by omega
    have hn : slots + n21 + (n - n21) ≤ N := by omega
    generalize cells + k20 = cells at hk ⊢
    generalize slots + n21 = slots at hn ⊢
    clear hk1 hn1
    obtain ⟨b22, hr0, hw⟩ := hw
    subst hr0
    obtain ⟨⟨ci0, fs0, hci0, hM0⟩, hw⟩ := hw
    obtain ⟨k24, n25, hk1, hn1, hw⟩ := hw
    obtain rfl : ci0 = 26 := List.mem_singleton.mp hci0
    refine z_callI hZ (vx_runV (As := [va_rf r19]) (rest := []) hC.fix (w_J3_add hlt hw) (cwV 1 hts (lw_V q846 q338 q339 q74 q340) rfl rfl rfl ⟨rfl, dd_J3_add⟩ ⟨(show 7 + 1 ≤ 8 + 5 * (d + 1) by omega), (show 8 + (2 + 11) + (195) ≤ 216 + 113 * (d + 1) by omega)⟩) (z_preV hC hZ hM0 zc26) rfl rfl hl.1 rfl (lv_room (Nat.zero_le _)) dX10_parts_61 ⟨(show cells + k24 ≤ K by omega), (show slots + n25 ≤ N by omega)⟩) (fun r23 M H locs hw1 hZ => ?_) (fun q M H locs ci fs E T9 N9 hw hZ hc1 hM1 hb1 => False.elim hw)
    replace hw := hw1
    clear hw1
    have hk : cells + k24 + ((k - k20) - k24) ≤ K := by omega
    have hn : slots + n25 + ((n - n21) - n25) ≤ N := by omega
    generalize cells + k24 = cells at hk ⊢
    generalize slots + n25 = slots at hn ⊢
    clear hk1 hn1
    refine lv_pop hx hb dX10_parts_64 rfl ?_
    refine lv_goto (tgt := 8) hx hb dX10_parts_65 (by decide) ?_
    exact hk8 _ _ _ _ hk hn hZ (lv_sub hl [0, 1] rfl) hw
  · replace hw := hw1
    clear hw1
    exact z_out hG hZ hM1 hb1 hc1 za0 (by omega) (by omega) hw
def wp_X10_parts_L68 (D : zD) (P : (Option Nat → zM → Prop) → (Nat → zM → Prop) → Nat → Nat → Nat → zM → Prop) (post : Option Nat → zM → Prop) (xp : Nat → zM → Prop) (o : Nat) (k : Nat) (n : Nat) (x1 : Option Nat) (M : zM) : Prop :=
    post x1 M
set_option maxHeartbeats 4000000 in
set_option maxRecDepth 100000 in
theorem wk_X10_parts_L68 {p : Program} {l : Launch} {e : Env} {s : State} {m : MethodId} {args : Array Value} {below : List Frame} {meth : Method} {c : Code} {D : zD} {P : (Option Nat → zM → Prop) → (Nat → zM → Prop) → Nat → Nat → Nat → zM → Prop} {post : Option Nat → zM → Prop} {xp : Nat → zM → Prop} {K N : Nat} {d : Nat} {o : Nat} (hG : zGx p l s m args meth c cX10_parts 2 "PluralBranches$Reader" D (some (.object "PluralBranches$Parts")) "parts" []) (hP : ∀ (post : Option Nat → zM → Prop) (xp : Nat → zM → Prop) (k n : Nat) (o : Nat) (M : zM), P post xp k n o M → zMet l D yX10_parts (ws_ yX10_parts cX10_parts 2 (some (.object "PluralBranches$Parts"))) (rm_X10_parts d k n) k n [.ref o] M zR post xp) : ∀ {H : Heap} {locs : List Loc} {cells slots : Nat} {ls : Array Slot} (k : Nat) (n : Nat) (x1 : Option Nat) (M : zM), cells + k ≤ K → slots + n ≤ N → zS D M H locs → lv_has ls 2 [(1, va_rf x1)] → wp_X10_parts_L68 D P post xp o k n x1 M → W p l e (rm_X10_parts (d + 1) K N) s m args below meth c H locs cells slots (vx_MQ below (zQ D zR post) (zX D xp) args s K N (zA D)) (F0 m 68 ls []) := by
  have hC := hG.1
  have hx := hC.x
  have hb := hC.b
  have hown := hC.o
  have hts := hC.ts
  have hlt := hG.2.2.2.2.2
  intro H locs cells slots ls k n x1 M hk hn hZ hl hw
  refine z_aload_n hC dX10_parts_68 rfl (lv_at hl 0 rfl) ?_
  exact z_aret (r := x1) hG (Or.inl ⟨_, rfl⟩) hZ (by omega) (by omega) hw dX10_parts_69
def wp_X10_parts_L8 (D : zD) (P : (Option Nat → zM → Prop) → (Nat → zM → Prop) → Nat → Nat → Nat → zM → Prop) (post : Option Nat → zM → Prop) (xp : Nat → zM → Prop) (o : Nat) : Nat → Nat → Nat → Option Nat → zM → Prop
  | 0 => fun _ _ _ _ => False
  | f + 1 => fun k n x1 M =>
    ((zis M o [9] ∧ wp_X10_isSign D (fun r27 M => ((¬ r27 = 0 → wp_X10_parts_L40 D P post xp o (wp_X10_parts_L8 D P post xp o f) k n x1 M) ∧ (r27 = 0 → ((zis M o [9] ∧ wp_X10_here D (fun r30 M => ((r30 = (123 : Int32) → wp_X10_parts_L40 D P post xp o (wp_X10_parts_L8 D P post xp o f) k n x1 M) ∧ (¬ r30 = (123 : Int32) → ((zis M o [9] ∧ wp_X10_here D (fun r33 M => ((¬ r33 = (35 : Int32) → wp_X10_parts_L68 D P post xp o k n x1 M) ∧ (r33 = (35 : Int32) → (zgI M o 9 3 fun g36 => ((g36 ≤ 0 → wp_X10_parts_L68 D P post xp o k n x1 M) ∧ (¬ g36 ≤ 0 → wp_X10_parts_L40 D P post xp o (wp_X10_parts_L8 D P post xp o f) k n x1 M)))))) o M))))) o M))))) o M))
set_option maxHeartbeats 4000000 in
set_option maxRecDepth 100000 in
theorem wk_X10_parts_L8 {p : Program} {l : Launch} {e : Env} {s : State} {m : MethodId} {args : Array Value} {below : List Frame} {meth : Method} {c : Code} {D : zD} {P : (Option Nat → zM → Prop) → (Nat → zM → Prop) → Nat → Nat → Nat → zM → Prop} {post : Option Nat → zM → Prop} {xp : Nat → zM → Prop} {K N : Nat} {d : Nat} {o : Nat} (hG : zGx p l s m args meth c cX10_parts 2 "PluralBranches$Reader" D (some (.object "PluralBranches$Parts")) "parts" []) (hP : ∀ (post : Option Nat → zM → Prop) (xp : Nat → zM → Prop) (k n : Nat) (o : Nat) (M : zM), P post xp k n o M → zMet l D yX10_parts (ws_ yX10_parts cX10_parts 2 (some (.object "PluralBranches$Parts"))) (rm_X10_parts d k n) k n [.ref o] M zR post xp) : ∀ (f : Nat), ∀ {H : Heap} {locs : List Loc} {cells slots : Nat} {ls : Array Slot} (k : Nat) (n : Nat) (x1 : Option Nat) (M : zM), cells + k ≤ K → slots + n ≤ N → zS D M H locs → lv_has ls 2 [(0, .ref o), (1, va_rf x1)] → wp_X10_parts_L8 D P post xp o f k n x1 M → W p l e (rm_X10_parts (d + 1) K N) s m args below meth c H locs cells slots (vx_MQ below (zQ D zR post) (zX D xp) args s K N (zA D)) (F0 m 8 ls []) := by
  have hC := hG.1
  have hx := hC.x
  have hb := hC.b
  have hown := hC.o
  have hts := hC.ts
  have hlt := hG.2.2.2.2.2
  intro f
  induction f with
  | zero =>
    intro H locs cells slots ls k n x1 M hk hn hZ hl hw
    exact absurd hw (fun h => h)
  | succ f ih =>
    intro H locs cells slots ls k n x1 M hk hn hZ hl hw
    refine lv_aload_n hx hb dX10_parts_8 rfl (lv_at hl 0 rfl) ?_
    obtain ⟨⟨ci0, fs0, hci0, hM0⟩, hw⟩ := hw
    obtain rfl : ci0 = 9 := List.mem_singleton.mp hci0
    refine z_callI hZ (vx_runV (As := []) (rest := []) hC.fix (w_X10_isSign hlt hw) (cwV 0 hts (lw_V q609 q611 qs5 q86 q612) rfl rfl rfl ⟨rfl, dd_X10_isSign⟩ ⟨(show 2 + 1 ≤ 8 + 5 * (d + 1) by omega), (show 8 + (2 + 11) + (89) ≤ 216 + 113 * (d + 1) by omega)⟩) (z_preV hC hZ hM0 zc9) rfl rfl hl.1 rfl (lv_room (Nat.zero_le _)) dX10_parts_9 ⟨(show cells + 0 ≤ K by omega), (show slots + 0 ≤ N by omega)⟩) (fun r41 M H locs hw1 hZ => ?_) (fun q M H locs ci fs E T9 N9 hw hZ hc1 hM1 hb1 => False.elim hw)
    replace hw := hw1
    clear hw1
    refine W.cs (cells' := cells) (slots' := slots) rfl rfl ?_
    refine lv_if_ne (tgt := 40) hx hb dX10_parts_12 (by decide) (fun c54 => ?_) (fun c54 => ?_)
    · replace hw := hw.1 c54
      exact wk_X10_parts_L40 hG hP _ (fun {_ _ _ _ _} _z0 _z1 _z2 _z3 h1 h2 h3 h4 h5 => ih _z0 _z1 _z2 _z3 h1 h2 h3 h4 h5) _ _ _ _ hk hn hZ (lv_sub hl [0, 1] rfl) hw
    · replace hw := hw.2 c54
      refine lv_aload_n hx hb dX10_parts_15 rfl (lv_at hl 0 rfl) ?_
      obtain ⟨⟨ci0, fs0, hci0, hM0⟩, hw⟩ := hw
      obtain rfl : ci0 = 9 := List.mem_singleton.mp hci0
      refine z_callI hZ (vx_runV (As := []) (rest := []) hC.fix (w_X10_here hlt hw) (cwV 0 hts (lw_V q613 q615 qs6 q86 q616) rfl rfl rfl ⟨rfl, dd_X10_here⟩ ⟨(show 1 + 1 ≤ 8 + 5 * (d + 1) by omega), (show 8 + (1 + 11) + (64) ≤ 216 + 113 * (d + 1) by omega)⟩) (z_preV hC hZ hM0 zc9) rfl rfl hl.1 rfl (lv_room (Nat.zero_le _)) dX10_parts_16 ⟨(show cells + 0 ≤ K by omega), (show slots + 0 ≤ N by omega)⟩) (fun r44 M H locs hw1 hZ => ?_) (fun q M H locs ci fs E T9 N9 hw hZ hc1 hM1 hb1 => False.elim hw)
      replace hw := hw1
      clear hw1
      refine W.cs (cells' := cells) (slots' := slots) rfl rfl ?_
      refine lv_bipush (v := 123) hx hb dX10_parts_19 (by decide) ?_
      refine lv_icmp_eq (tgt := 40) hx hb dX10_parts_21 (by decide) (fun c53 => ?_) (fun c53 => ?_)
      · replace hw := hw.1 c53
        exact wk_X10_parts_L40 hG hP _ (fun {_ _ _ _ _} _z0 _z1 _z2 _z3 h1 h2 h3 h4 h5 => ih _z0 _z1 _z2 _z3 h1 h2 h3 h4 h5) _ _ _ _ hk hn hZ (lv_sub hl [0, 1] rfl) hw
      · replace hw := hw.2 c53
        refine lv_aload_n hx hb dX10_parts_24 rfl (lv_at hl 0 rfl) ?_
        obtain ⟨⟨ci0, fs0, hci0, hM0⟩, hw⟩ := hw
        obtain rfl : ci0 = 9 := List.mem_singleton.mp hci0
        refine z_callI hZ (vx_runV (As := []) (rest := []) hC.fix (w_X10_here hlt hw) (cwV 0 hts (lw_V q613 q615 qs6 q86 q616) rfl rfl rfl ⟨rfl, dd_X10_here⟩ ⟨(show 1 + 1 ≤ 8 + 5 * (d + 1) by omega), (show 8 + (1 + 11) + (64) ≤ 216 + 113 * (d + 1) by omega)⟩) (z_preV hC hZ hM0 zc9) rfl rfl hl.1 rfl (lv_room (Nat.zero_le _)) dX10_parts_25 ⟨(show cells + 0 ≤ K by omega), (show slots + 0 ≤ N by omega)⟩) (fun r47 M H locs hw1 hZ => ?_) (fun q M H locs ci fs E T9 N9 hw hZ hc1 hM1 hb1 => False.elim hw)
        replace hw := hw1
        clear hw1
        refine W.cs (cells' := cells) (slots' := slots) rfl rfl ?_
        refine lv_bipush (v := 35) hx hb dX10_parts_28 (by decide) ?_
        refine lv_icmp_ne (tgt := 68) hx hb dX10_parts_30 (by decide) (fun c52 => ?_) (fun c52 => ?_)
        · replace hw := hw.1 c52
          exact wk_X10_parts_L68 hG hP _ _ _ _ hk hn hZ (lv_sub hl [1] rfl) hw
        · replace hw := hw.2 c52
          refine lv_aload_n hx hb dX10_parts_33 rfl (lv_at hl 0 rfl) ?_
          obtain ⟨fs0, g50, hM0, hx0, hw⟩ := hw
          refine z_get hC hZ hM0 zc9 3 (by decide) q572 (fun _ h9 => h9) hx0 dX10_parts_34 ?_
          refine lv_if_le (tgt := 68) hx hb dX10_parts_37 (by decide) (fun c51 => ?_) (fun c51 => ?_)
          · replace hw := hw.1 c51
            exact wk_X10_parts_L68 hG hP _ _ _ _ hk hn hZ (lv_sub hl [1] rfl) hw
          · replace hw := hw.2 c51
            exact wk_X10_parts_L40 hG hP _ (fun {_ _ _ _ _} _z0 _z1 _z2 _z3 h1 h2 h3 h4 h5 => ih _z0 _z1 _z2 _z3 h1 h2 h3 h4 h5) _ _ _ _ hk hn hZ (lv_sub hl [0, 1] rfl) hw
def wp_X10_parts (D : zD) : Nat → (Option Nat → zM → Prop) → (Nat → zM → Prop) → Nat → Nat → Nat → zM → Prop
  | 0 => fun _ _ _ _ _ _ => False
  | d + 1 => fun post xp k n o M =>
    (fun P => (znew D M 11 1 [.null] k n fun b55 M => ((∃ k57 n58, k57 ≤ (k - 1) ∧ n58 ≤ (n - 1) ∧ wp_X12_init D (fun _ M => (∃ f, wp_X10_parts_L8 D P post xp o f ((k - 1) - k57) ((n - 1) - n58) (some b55) M)) k57 n58 b55 M)))) (wp_X10_parts D d)
set_option maxHeartbeats 4000000 in
set_option maxRecDepth 100000 in
theorem w_X10_parts {l : Launch} {D : zD} (hlt : l.stackTraces = false) : ∀ (d : Nat) (post : Option Nat → zM → Prop) (xp : Nat → zM → Prop) (k : Nat) (n : Nat) (o : Nat) (M : zM), wp_X10_parts D d post xp k n o M → zMet l D yX10_parts (ws_ yX10_parts cX10_parts 2 (some (.object "PluralBranches$Parts"))) (rm_X10_parts d k n) k n [.ref o] M zR post xp := by
  intro d
  induction d with
  | zero =>
    intro post xp k n o M hw
    exact absurd hw (fun h => h)
  | succ d ih =>
    intro post xp k n o M hw
    have hP := ih
    replace hw : (fun (P : (Option Nat → zM → Prop) → (Nat → zM → Prop) → Nat → Nat → Nat → zM → Prop) => (znew D M 11 1 [.null] k n fun b55 M => ((∃ k57 n58, k57 ≤ (k - 1) ∧ n58 ≤ (n - 1) ∧ wp_X12_init D (fun _ M => (∃ f, wp_X10_parts_L8 D P post xp o f ((k - 1) - k57) ((n - 1) - n58) (some b55) M)) k57 n58 b55 M)))) (wp_X10_parts D d) := hw
    generalize wp_X10_parts D d = P at hw hP
    replace hw : (znew D M 11 1 [.null] k n fun b55 M => ((∃ k57 n58, k57 ≤ (k - 1) ∧ n58 ≤ (n - 1) ∧ wp_X12_init D (fun _ M => (∃ f, wp_X10_parts_L8 D P post xp o f ((k - 1) - k57) ((n - 1) - n58) (some b55) M)) k57 n58 b55 M))) := hw
    have hlv : lv_args 0 [.ref o] = [(0, .ref o)] := (zargs1 rfl rfl)
    refine z_ofW hlt (by decide) (Nat.le_trans (zsl1 rfl (Nat.le_refl 0 : (lg_sl []).length ≤ 0)) (Nat.le_of_ble_eq_true rfl)) hlv ?_
    intro p e s m args below meth c ls hG hZ hl
    have hC := hG.1
    have hx := hC.x
    have hb := hC.b
    have hown := hC.o
    have hts := hC.ts
    have hlt := hG.2.2.2.2.2
    obtain ⟨cells, hce⟩ : ∃ z : Nat, z = 0 := ⟨0, rfl⟩
    obtain ⟨slots, hsl⟩ : ∃ z : Nat, z = 0 := ⟨0, rfl⟩
    refine W.cs (cells' := cells) (slots' := slots) hce.symm hsl.symm ?_
    have hk : cells + k ≤ k := by omega
    have hn : slots + n ≤ n := by omega
    clear hce hsl
    obtain ⟨hk1, hn1, hw⟩ := hw
    refine z_new (fs := [.null]) hC hZ zc11 q596 q597 q88 (zdefs (N := 1) (ty := tyX12) (fs := [.null]) (by decide)) (show cells + 1 ≤ k by omega) (show slots + 1 ≤ n by omega) dX10_parts_0 (fun b59 H hq0 hq1 hZ => ?_)
    replace hw := hw b59 hq0 hq1
    generalize zu M _ _ = M at hw hZ
    have hk : cells + 1 + (k - 1) ≤ k := by omega
    have hn : slots + 1 + (n - 1) ≤ n := by omega
    generalize cells + 1 = cells at hk ⊢
    generalize slots + 1 = slots at hn ⊢
    clear hk1 hn1
    refine lv_dup hx hb dX10_parts_3 rfl ?_
    obtain ⟨k61, n62, hk1, hn1, hw⟩ := hw
    refine z_callU hZ (vx_runIN (As := []) (rest := [.ref b59]) hC.fix (w_X12_init hlt hw) ⟨va_cnB 0 hts (lw_meth q600) rfl rfl rfl (hC.nw q598 rfl) (hts _ q88) dd_X12_init ⟨(show 4 + 1 ≤ 8 + 5 * (d + 1) by omega), (show 8 + (1 + 11) + (124) ≤ 216 + 113 * (d + 1) by omega)⟩, rfl, hts _ q599⟩ (z_preS hC hZ) rfl rfl hl.1 rfl (lv_room (Nat.le_trans (zrm1 rfl zrm0) (Nat.le_of_ble_eq_true rfl))) dX10_parts_4 ⟨(show cells + k61 ≤ k by omega), (show slots + n62 ≤ n by omega)⟩) (fun r60 M H locs hw1 hZ => ?_) (fun q M H locs ci fs E T9 N9 hw hZ hc1 hM1 hb1 => False.elim hw)
    replace hw := hw1
    clear hw1
    have hk : cells + k61 + ((k - 1) - k61) ≤ k := by omega
    have hn : slots + n62 + ((n - 1) - n62) ≤ n := by omega
    generalize cells + k61 = cells at hk ⊢
    generalize slots + n62 = slots at hn ⊢
    clear hk1 hn1
    refine lv_astore_n (i := 1) (lv' := [(1, .ref b59), (0, .ref o)]) hx hb dX10_parts_7 rfl hl (by decide) rfl (fun ls hl1 => ?_)
    replace hl := hl1
    clear hl1
    obtain ⟨f1, hw⟩ := hw
    exact wk_X10_parts_L8 hG hP f1 _ _ _ _ hk hn hZ (lv_sub hl [1, 0] rfl) hw
abbrev rm_X10_whole (K N : Nat) : Room := { frames := 39, cells := K, slots := N, locals := 915 }
def wp_X10_whole_L46 (D : zD) (post : Option Nat → zM → Prop) (xp : Nat → zM → Prop) (o : Nat) (k : Nat) (n : Nat) (y0 : Int32) (M : zM) : Prop :=
    (zgI M o 9 4 fun g1 => ((∃ k3 n4, k3 ≤ k ∧ n4 ≤ n ∧ wp_X0_need D (fun _ M => (zgR M o 9 0 fun g5 => post g5 M)) xp k3 n4 y0 ((-2000 : Int32) - g1) M)))
set_option maxHeartbeats 4000000 in
set_option maxRecDepth 100000 in
theorem wk_X10_whole_L46 {p : Program} {l : Launch} {e : Env} {s : State} {m : MethodId} {args : Array Value} {below : List Frame} {meth : Method} {c : Code} {D : zD} {post : Option Nat → zM → Prop} {xp : Nat → zM → Prop} {K N : Nat} {o : Nat} (hG : zGx p l s m args meth c cX10_whole 1 "PluralBranches$Reader" D (some (.object "PluralBranches$Message")) "whole" []) : ∀ {H : Heap} {locs : List Loc} {cells slots : Nat} {ls : Array Slot} (k : Nat) (n : Nat) (y0 : Int32) (M : zM), cells + k ≤ K → slots + n ≤ N → zS D M H locs → lv_has ls 1 [(0, .ref o)] → wp_X10_whole_L46 D post xp o k n y0 M → W p l e (rm_X10_whole K N) s m args below meth c H locs cells slots (vx_MQ below (zQ D zR post) (zX D xp) args s K N (zA D)) (F0 m 46 ls [.int y0]) := by
  have hC := hG.1
  have hx := hC.x
  have hb := hC.b
  have hown := hC.o
  have hts := hC.ts
  have hlt := hG.2.2.2.2.2
  intro H locs cells slots ls k n y0 M hk hn hZ hl hw
  refine lv_sipush (v := (-2000)) hx hb dX10_whole_46 (by decide) ?_
  refine lv_aload_n hx hb dX10_whole_49 rfl (lv_at hl 0 rfl) ?_
  obtain ⟨fs0, g6, hM0, hx0, hw⟩ := hw
  refine z_get hC hZ hM0 zc9 4 (by decide) q573 (fun _ h9 => h9) hx0 dX10_whole_50 ?_
  refine lv_isub hx hb dX10_whole_53 ?_
  obtain ⟨k8, n9, hk1, hn1, hw⟩ := hw
  refine z_callU hZ (vx_runSN (As := [.int y0, .int ((-2000 : Int32) - g6)]) (rest := []) hC.fix (w_X0_need hlt hw) ⟨va_cnB 2 hts (lw_meth q1003) rfl rfl rfl (hC.nw q1001 rfl) (hts _ q67) dd_X0_need ⟨Nat.le_of_ble_eq_true rfl, Nat.le_of_ble_eq_true rfl⟩, hts _ q1002, trivial⟩ (z_preS hC hZ) rfl rfl hl.1 rfl (lv_room (Nat.zero_le _)) dX10_whole_54 ⟨(show cells + k8 ≤ K by omega), (show slots + n9 ≤ N by omega)⟩) (fun r7 M H locs hw1 hZ => ?_) (fun q M H locs ci fs E T9 N9 hw1 hZ hc1 hM1 hb1 => ?_)
  · replace hw := hw1
    clear hw1
    have hk : cells + k8 + (k - k8) ≤ K := by omega
    have hn : slots + n9 + (n - n9) ≤ N := by omega
    generalize cells + k8 = cells at hk ⊢
    generalize slots + n9 = slots at hn ⊢
    clear hk1 hn1
    refine lv_aload_n hx hb dX10_whole_57 rfl (lv_at hl 0 rfl) ?_
    obtain ⟨fs0, g10, hM0, hx0, hw⟩ := hw
    refine z_get hC hZ hM0 zc9 0 (by decide) q569 (fun _ h9 => h9) hx0 dX10_whole_58 ?_
    exact z_aret (r := g10) hG (Or.inl ⟨_, rfl⟩) hZ (by omega) (by omega) hw dX10_whole_61
  · replace hw := hw1
    clear hw1
    exact z_out hG hZ hM1 hb1 hc1 za0 (by omega) (by omega) hw
def wp_X10_whole_L31 (D : zD) (post : Option Nat → zM → Prop) (xp : Nat → zM → Prop) (o : Nat) (k : Nat) (n : Nat) (y0 : Option Nat) (y1 : Int32) (M : zM) : Prop :=
    ((zd y0 fun b11 => (zis M b11 [9] ∧ (∃ k13 n14, k13 ≤ k ∧ n14 ≤ n ∧ wp_X10_must D (fun _ M => (zgI M o 9 4 fun g15 => ((0 ≤ g15 → wp_X10_whole_L46 D post xp o (k - k13) (n - n14) (0 : Int32) M) ∧ (¬ 0 ≤ g15 → wp_X10_whole_L46 D post xp o (k - k13) (n - n14) (1 : Int32) M)))) xp k13 n14 b11 y1 M))))
set_option maxHeartbeats 4000000 in
set_option maxRecDepth 100000 in
theorem wk_X10_whole_L31 {p : Program} {l : Launch} {e : Env} {s : State} {m : MethodId} {args : Array Value} {below : List Frame} {meth : Method} {c : Code} {D : zD} {post : Option Nat → zM → Prop} {xp : Nat → zM → Prop} {K N : Nat} {o : Nat} (hG : zGx p l s m args meth c cX10_whole 1 "PluralBranches$Reader" D (some (.object "PluralBranches$Message")) "whole" []) : ∀ {H : Heap} {locs : List Loc} {cells slots : Nat} {ls : Array Slot} (k : Nat) (n : Nat) (y0 : Option Nat) (y1 : Int32) (M : zM), cells + k ≤ K → slots + n ≤ N → zS D M H locs → lv_has ls 1 [(0, .ref o)] → wp_X10_whole_L31 D post xp o k n y0 y1 M → W p l e (rm_X10_whole K N) s m args below meth c H locs cells slots (vx_MQ below (zQ D zR post) (zX D xp) args s K N (zA D)) (F0 m 31 ls [.int y1, va_rf y0]) := by
  have hC := hG.1
  have hx := hC.x
  have hb := hC.b
  have hown := hC.o
  have hts := hC.ts
  have hlt := hG.2.2.2.2.2
  intro H locs cells slots ls k n y0 y1 M hk hn hZ hl hw
  obtain ⟨b17, hr0, hw⟩ := hw
  subst hr0
  obtain ⟨⟨ci0, fs0, hci0, hM0⟩, hw⟩ := hw
  obtain ⟨k19, n20, hk1, hn1, hw⟩ := hw
  obtain rfl : ci0 = 9 := List.mem_singleton.mp hci0
  refine z_callU hZ (vx_runV (As := [.int y1]) (rest := []) hC.fix (w_X10_must hlt hw) (cwV 1 hts (lw_V q640 q642 qs9 q86 q643) rfl rfl rfl ⟨rfl, dd_X10_must⟩ ⟨Nat.le_of_ble_eq_true rfl, Nat.le_of_ble_eq_true rfl⟩) (z_preV hC hZ hM0 zc9) rfl rfl hl.1 rfl (lv_room (Nat.zero_le _)) dX10_whole_31 ⟨(show cells + k19 ≤ K by omega), (show slots + n20 ≤ N by omega)⟩) (fun r18 M H locs hw1 hZ => ?_) (fun q M H locs ci fs E T9 N9 hw1 hZ hc1 hM1 hb1 => ?_)
  · replace hw := hw1
    clear hw1
    have hk : cells + k19 + (k - k19) ≤ K := by omega
    have hn : slots + n20 + (n - n20) ≤ N := by omega
    generalize cells + k19 = cells at hk ⊢
    generalize slots + n20 = slots at hn ⊢
    clear hk1 hn1
    refine lv_aload_n hx hb dX10_whole_34 rfl (lv_at hl 0 rfl) ?_
    obtain ⟨fs0, g21, hM0, hx0, hw⟩ := hw
    refine z_get hC hZ hM0 zc9 4 (by decide) q573 (fun _ h9 => h9) hx0 dX10_whole_35 ?_
    refine lv_if_ge (tgt := 45) hx hb dX10_whole_38 (by decide) (fun c22 => ?_) (fun c22 => ?_)
    · replace hw := hw.1 c22
      refine lv_iconst (v := 0) hx hb dX10_whole_45 (by decide) ?_
      exact wk_X10_whole_L46 hG _ _ _ _ hk hn hZ (lv_sub hl [0] rfl) hw
    · replace hw := hw.2 c22
      refine lv_iconst (v := 1) hx hb dX10_whole_41 (by decide) ?_
      refine lv_goto (tgt := 46) hx hb dX10_whole_42 (by decide) ?_
      exact wk_X10_whole_L46 hG _ _ _ _ hk hn hZ (lv_sub hl [0] rfl) hw
  · replace hw := hw1
    clear hw1
    exact z_out hG hZ hM1 hb1 hc1 za0 (by omega) (by omega) hw
def wp_X10_whole (D : zD) (post : Option Nat → zM → Prop) (xp : Nat → zM → Prop) (k : Nat) (n : Nat) (o : Nat) (M : zM) : Prop :=
    (zgR M o 9 0 fun g23 => ((zis M o [9] ∧ (∃ k25 n26, k25 ≤ k ∧ n26 ≤ n ∧ wp_X10_parts D 6 (fun r24 M => ((zd g23 fun b27 => zp D M b27 10 0 (va_rf r24) fun M => (zgI M o 9 1 fun g28 => (zgR M o 9 5 fun g29 => ((zd g29 fun b30 => zgI M b30 0 4 fun g31 => ((¬ g28 = g31 → wp_X10_whole_L31 D post xp o (k - k25) (n - n26) (some o) (0 : Int32) M) ∧ (g28 = g31 → wp_X10_whole_L31 D post xp o (k - k25) (n - n26) (some o) (1 : Int32) M))))))))) xp k25 n26 o M))))
set_option maxHeartbeats 4000000 in
set_option maxRecDepth 100000 in
theorem w_X10_whole {l : Launch} {D : zD} {post : Option Nat → zM → Prop} {xp : Nat → zM → Prop} (hlt : l.stackTraces = false) {k : Nat} {n : Nat} {o : Nat} {M : zM} (hw : wp_X10_whole D post xp k n o M) : zMet l D yX10_whole (ws_ yX10_whole cX10_whole 1 (some (.object "PluralBranches$Message"))) (rm_X10_whole k n) k n [.ref o] M zR post xp := by
  unfold wp_X10_whole at hw
  have hlv : lv_args 0 [.ref o] = [(0, .ref o)] := (zargs1 rfl rfl)
  refine z_ofW hlt (by decide) (Nat.le_trans (zsl1 rfl (Nat.le_refl 0 : (lg_sl []).length ≤ 0)) (Nat.le_of_ble_eq_true rfl)) hlv ?_
  intro p e s m args below meth c ls hG hZ hl
  have hC := hG.1
  have hx := hC.x
  have hb := hC.b
  have hown := hC.o
  have hts := hC.ts
  have hlt := hG.2.2.2.2.2
  obtain ⟨cells, hce⟩ : ∃ z : Nat, z = 0 := ⟨0, rfl⟩
  obtain ⟨slots, hsl⟩ : ∃ z : Nat, z = 0 := ⟨0, rfl⟩
  refine W.cs (cells' := cells) (slots' := slots) hce.symm hsl.symm ?_
  have hk : cells + k ≤ k := by omega
  have hn : slots + n ≤ n := by omega
  clear hce hsl
  refine lv_aload_n hx hb dX10_whole_0 rfl (lv_at hl 0 rfl) ?_
  obtain ⟨fs0, g34, hM0, hx0, hw⟩ := hw
  refine z_get hC hZ hM0 zc9 0 (by decide) q569 (fun _ h9 => h9) hx0 dX10_whole_1 ?_
  refine lv_aload_n hx hb dX10_whole_4 rfl (lv_at hl 0 rfl) ?_
  obtain ⟨⟨ci0, fs0, hci0, hM0⟩, hw⟩ := hw
  obtain ⟨k36, n37, hk1, hn1, hw⟩ := hw
  obtain rfl : ci0 = 9 := List.mem_singleton.mp hci0
  refine z_callR hZ (vx_runV (As := []) (rest := [va_rf g34]) hC.fix (w_X10_parts hlt 6 _ _ _ _ _ _ hw) (cwV 0 hts (lw_V q592 q594 qs4 q86 q595) rfl rfl rfl ⟨rfl, dd_X10_parts⟩ ⟨(show 8 + 5 * 6 + 1 ≤ 39 by omega), (show 8 + (2 + 11) + (216 + 113 * 6) ≤ 915 by omega)⟩) (z_preV hC hZ hM0 zc9) rfl rfl hl.1 rfl (lv_room (Nat.le_trans (zrm1 (zcat _) zrm0) (Nat.le_of_ble_eq_true rfl))) dX10_whole_5 ⟨(show cells + k36 ≤ k by omega), (show slots + n37 ≤ n by omega)⟩) (fun r35 M H locs hw1 hZ => ?_) (fun q M H locs ci fs E T9 N9 hw1 hZ hc1 hM1 hb1 => ?_)
  · replace hw := hw1
    clear hw1
    have hk : cells + k36 + (k - k36) ≤ k := by omega
    have hn : slots + n37 + (n - n37) ≤ n := by omega
    generalize cells + k36 = cells at hk ⊢
    generalize slots + n37 = slots at hn ⊢
    clear hk1 hn1
    obtain ⟨b38, hr0, hw⟩ := hw
    subst hr0
    obtain ⟨fs0, hM0, hb0, hk0, hw⟩ := hw
    refine z_putN hC hZ hM0 hb0 zc10 0 (by decide) q546 (fun _ h9 => h9) (by decide) zrf_nar zrf_fit hk0 dX10_whole_8 (fun H locs hZ => ?_)
    generalize zu M _ _ = M at hw hZ
    refine lv_aload_n hx hb dX10_whole_11 rfl (lv_at hl 0 rfl) ?_
    refine lv_aload_n hx hb dX10_whole_12 rfl (lv_at hl 0 rfl) ?_
    obtain ⟨fs0, g39, hM0, hx0, hw⟩ := hw
    refine z_get hC hZ hM0 zc9 1 (by decide) q570 (fun _ h9 => h9) hx0 dX10_whole_13 ?_
    refine lv_aload_n hx hb dX10_whole_16 rfl (lv_at hl 0 rfl) ?_
    obtain ⟨fs0, g40, hM0, hx0, hw⟩ := hw
    refine z_get hC hZ hM0 zc9 5 (by decide) q574 (fun _ h9 => h9) hx0 dX10_whole_17 ?_
    obtain ⟨b41, hr0, hw⟩ := hw
    subst hr0
    obtain ⟨fs0, g42, hM0, hx0, hw⟩ := hw
    refine z_getN hC hZ hM0 zc0 4 (by decide) q404 (fun _ h9 => h9) hx0 dX10_whole_20 ?_
    refine lv_icmp_ne (tgt := 30) hx hb dX10_whole_23 (by decide) (fun c43 => ?_) (fun c43 => ?_)
    · replace hw := hw.1 c43
      refine lv_iconst (v := 0) hx hb dX10_whole_30 (by decide) ?_
      exact wk_X10_whole_L31 hG _ _ _ _ _ hk hn hZ (lv_sub hl [0] rfl) hw
    · replace hw := hw.2 c43
      refine lv_iconst (v := 1) hx hb dX10_whole_26 (by decide) ?_
      refine lv_goto (tgt := 31) hx hb dX10_whole_27 (by decide) ?_
      exact wk_X10_whole_L31 hG _ _ _ _ _ hk hn hZ (lv_sub hl [0] rfl) hw
  · replace hw := hw1
    clear hw1
    exact z_out hG hZ hM1 hb1 hc1 za0 (by omega) (by omega) hw
