set_option maxRecDepth 100000
theorem dd_J3_clear : yJ3_clear.cls ≠ "java/lang/invoke/MethodHandle" ∧ yJ3_clear.cls ≠ "java/lang/invoke/VarHandle" ∧ (parseMethodDescriptor yJ3_clear.desc).map (fun d => d.parameters.length) = some 0 := by decide +kernel
theorem dd_J3_iterator : yJ3_iterator.cls ≠ "java/lang/invoke/MethodHandle" ∧ yJ3_iterator.cls ≠ "java/lang/invoke/VarHandle" ∧ (parseMethodDescriptor yJ3_iterator.desc).map (fun d => d.parameters.length) = some 0 := by decide +kernel
theorem dd_X0_has : yX0_has.cls ≠ "java/lang/invoke/MethodHandle" ∧ yX0_has.cls ≠ "java/lang/invoke/VarHandle" ∧ (parseMethodDescriptor yX0_has.desc).map (fun d => d.parameters.length) = some 2 := by decide +kernel
theorem dd_X0_languageOf : yX0_languageOf.cls ≠ "java/lang/invoke/MethodHandle" ∧ yX0_languageOf.cls ≠ "java/lang/invoke/VarHandle" ∧ (parseMethodDescriptor yX0_languageOf.desc).map (fun d => d.parameters.length) = some 1 := by decide +kernel
theorem dd_X0_listed : yX0_listed.cls ≠ "java/lang/invoke/MethodHandle" ∧ yX0_listed.cls ≠ "java/lang/invoke/VarHandle" ∧ (parseMethodDescriptor yX0_listed.desc).map (fun d => d.parameters.length) = some 2 := by decide +kernel
theorem dd_X27_init : yX27_init.cls ≠ "java/lang/invoke/MethodHandle" ∧ yX27_init.cls ≠ "java/lang/invoke/VarHandle" ∧ (parseMethodDescriptor yX27_init.desc).map (fun d => d.parameters.length) = some 1 := by decide +kernel
theorem dd_X27_with : yX27_with.cls ≠ "java/lang/invoke/MethodHandle" ∧ yX27_with.cls ≠ "java/lang/invoke/VarHandle" ∧ (parseMethodDescriptor yX27_with.desc).map (fun d => d.parameters.length) = some 1 := by decide +kernel
theorem dd_X8_init : yX8_init.cls ≠ "java/lang/invoke/MethodHandle" ∧ yX8_init.cls ≠ "java/lang/invoke/VarHandle" ∧ (parseMethodDescriptor yX8_init.desc).map (fun d => d.parameters.length) = some 0 := by decide +kernel
theorem dd_X8_sort : yX8_sort.cls ≠ "java/lang/invoke/MethodHandle" ∧ yX8_sort.cls ≠ "java/lang/invoke/VarHandle" ∧ (parseMethodDescriptor yX8_sort.desc).map (fun d => d.parameters.length) = some 0 := by decide +kernel
abbrev rm_X8_init : Room := { frames := 1, cells := 0, slots := 0, locals := 64 }
def wp_X8_init (D : zD) (post : Unit → zM → Prop) (o : Nat) (M : zM) : Prop :=
    post () M
set_option maxHeartbeats 4000000 in
set_option maxRecDepth 100000 in
theorem w_X8_init {l : Launch} {D : zD} {post : Unit → zM → Prop} (hlt : l.stackTraces = false) {o : Nat} {M : zM} (hw : wp_X8_init D post o M) : zMet l D yX8_init (ws_ yX8_init cX8_init 1 (none)) rm_X8_init 0 0 [.ref o] M zU post (fun _ _ => False) := by
  unfold wp_X8_init at hw
  have hlv : lv_args 0 [.ref o] = [(0, .ref o)] := (zargs1 rfl rfl)
  refine z_ofW hlt (by decide) (Nat.le_trans (zsl1 rfl (Nat.le_refl 0 : (lg_sl []).length ≤ 0)) (Nat.le_of_ble_eq_true rfl)) hlv ?_
  intro p e s m args below meth c ls hG hZ hl
  have hC := hG.1
  have hx := hC.x
  have hb := hC.b
  have hown := hC.o
  have hts := hC.ts
  have hlt := hG.2.2.2.2.2
  obtain ⟨cells, hce⟩ : ∃ z : Nat, z = 0 := ⟨0, rfl⟩
  obtain ⟨slots, hsl⟩ : ∃ z : Nat, z = 0 := ⟨0, rfl⟩
  refine W.cs (cells' := cells) (slots' := slots) hce.symm hsl.symm ?_
  have hk : cells ≤ 0 := Nat.le_of_eq hce
  have hn : slots ≤ 0 := Nat.le_of_eq hsl
  clear hce hsl
  refine lv_aload_n hx hb dX8_init_0 rfl (lv_at hl 0 rfl) ?_
  refine W.objInit hx hb hown (hts _ q393) (hts _ q124) (hts _ q125) rfl (by rw [hC.ml]; exact hl.1) rfl dX8_init_1 (Nat.le_of_ble_eq_true rfl) (Nat.le_of_ble_eq_true rfl) ?_
  refine W.eq (g2 := F0 m 4 ls []) rfl ?_
  exact z_vret hG hZ hk hn hw dX8_init_4
abbrev rm_X0_init (K N : Nat) : Room := { frames := 10, cells := K, slots := N, locals := 258 }
def wp_X0_init_L100 (D : zD) (post : Unit → zM → Prop) (o : Nat) : Nat → Nat → Nat → Int32 → zM → Prop
  | 0 => fun _ _ _ _ => False
  | f + 1 => fun k n x2 M =>
    (zlen M (D.2.2.2 0) fun n1 => ((n1 ≤ x2 → (znewA D M 1 (240 : Int32) k n fun b2 M => (zp D M o 0 1 (.ref b2) fun M => (znewA D M 1 (120 : Int32) (k - 1) (n - (240 : Int32).toNatClampNeg) fun b3 M => (zp D M o 0 3 (.ref b3) fun M => (znewA D M 8 (4 : Int32) ((k - 1) - 1) ((n - (240 : Int32).toNatClampNeg) - (120 : Int32).toNatClampNeg) fun b4 M => (zp D M o 0 5 (.ref b4) fun M => (znewA D M 9 (5 : Int32) (((k - 1) - 1) - 1) (((n - (240 : Int32).toNatClampNeg) - (120 : Int32).toNatClampNeg) - (4 : Int32).toNatClampNeg) fun b5 M => (zp D M o 0 6 (.ref b5) fun M => (znewA D M 10 (3 : Int32) ((((k - 1) - 1) - 1) - 1) ((((n - (240 : Int32).toNatClampNeg) - (120 : Int32).toNatClampNeg) - (4 : Int32).toNatClampNeg) - (5 : Int32).toNatClampNeg) fun b6 M => (znew D M 7 1 [.null] (((((k - 1) - 1) - 1) - 1) - 1) (((((n - (240 : Int32).toNatClampNeg) - (120 : Int32).toNatClampNeg) - (4 : Int32).toNatClampNeg) - (5 : Int32).toNatClampNeg) - (3 : Int32).toNatClampNeg) fun b7 M => (wp_X8_init D (fun _ M => (zsR D M b6 10 (0 : Int32) (some b7) fun M => (znew D M 7 1 [.null] ((((((k - 1) - 1) - 1) - 1) - 1) - 1) ((((((n - (240 : Int32).toNatClampNeg) - (120 : Int32).toNatClampNeg) - (4 : Int32).toNatClampNeg) - (5 : Int32).toNatClampNeg) - (3 : Int32).toNatClampNeg) - 1) fun b11 M => (wp_X8_init D (fun _ M => (zsR D M b6 10 (1 : Int32) (some b11) fun M => (znew D M 7 1 [.null] (((((((k - 1) - 1) - 1) - 1) - 1) - 1) - 1) (((((((n - (240 : Int32).toNatClampNeg) - (120 : Int32).toNatClampNeg) - (4 : Int32).toNatClampNeg) - (5 : Int32).toNatClampNeg) - (3 : Int32).toNatClampNeg) - 1) - 1) fun b15 M => (wp_X8_init D (fun _ M => (zsR D M b6 10 (2 : Int32) (some b15) fun M => (zp D M o 0 7 (.ref b6) fun M => post () M))) b15 M)))) b11 M)))) b7 M)))))))))))) ∧ (¬ n1 ≤ x2 → (zgR M o 0 0 fun g24 => (zaI M (D.2.2.2 0) 0 x2 fun v25 => ((zd g24 fun b26 => zaR M b26 6 v25 fun v27 => (znewA D M 0 (6 : Int32) k n fun b28 M => (zaI M (D.2.2.2 0) 0 (x2 + (1 : Int32)) fun v29 => (zsI D M b28 (0 : Int32) v29 fun M => (zaI M (D.2.2.2 0) 0 (x2 + (2 : Int32)) fun v30 => (zsI D M b28 (1 : Int32) v30 fun M => (zaI M (D.2.2.2 0) 0 (x2 + (3 : Int32)) fun v31 => (zsI D M b28 (2 : Int32) v31 fun M => (zaI M (D.2.2.2 0) 0 (x2 + (4 : Int32)) fun v32 => (zsI D M b28 (3 : Int32) v32 fun M => (zaI M (D.2.2.2 0) 0 (x2 + (5 : Int32)) fun v33 => (zsI D M b28 (4 : Int32) v33 fun M => (zaI M (D.2.2.2 0) 0 (x2 + (6 : Int32)) fun v34 => (zsI D M b28 (5 : Int32) v34 fun M => ((zd v27 fun b35 => (zis M b35 [2, 4, 5, 6] ∧ (∃ k37 n38, k37 ≤ (k - 1) ∧ n38 ≤ (n - (6 : Int32).toNatClampNeg) ∧ wp_X2_with D (fun r36 M => wp_X0_init_L100 D post o f ((k - 1) - k37) ((n - (6 : Int32).toNatClampNeg) - n38) (x2 + 7) M) k37 n38 b35 (0 : Int32) (some b28) M))))))))))))))))))))))))
set_option maxHeartbeats 4000000 in
set_option maxRecDepth 100000 in
theorem wk_X0_init_L100 {p : Program} {l : Launch} {e : Env} {s : State} {m : MethodId} {args : Array Value} {below : List Frame} {meth : Method} {c : Code} {D : zD} {post : Unit → zM → Prop} {K N : Nat} {o : Nat} (hG : zGx p l s m args meth c cX0_init 3 "PluralBranches" D (none) "<init>" []) : ∀ (f : Nat), ∀ {H : Heap} {locs : List Loc} {cells slots : Nat} {ls : Array Slot} (k : Nat) (n : Nat) (x2 : Int32) (M : zM), cells + k ≤ K → slots + n ≤ N → zS D M H locs → lv_has ls 3 [(0, .ref o), (2, .int x2)] → wp_X0_init_L100 D post o f k n x2 M → W p l e (rm_X0_init K N) s m args below meth c H locs cells slots (vx_MQ below (zQ D zU post) (zX D (fun _ _ => False)) args s K N (zA D)) (F0 m 100 ls []) := by
  have hC := hG.1
  have hx := hC.x
  have hb := hC.b
  have hown := hC.o
  have hts := hC.ts
  have hlt := hG.2.2.2.2.2
  intro f
  induction f with
  | zero =>
    intro H locs cells slots ls k n x2 M hk hn hZ hl hw
    exact absurd hw (fun h => h)
  | succ f ih =>
    intro H locs cells slots ls k n x2 M hk hn hZ hl hw
    refine lv_iload_n hx hb dX0_init_100 rfl (lv_at hl 1 rfl) ?_
    refine z_gets hC hZ hC.K.2.2.2.2.2.1.1 q381 (fun _ h9 => h9) dX0_init_101 ?_
    obtain ⟨y0, hM0, hy0, hw⟩ := hw
    refine z_alen hC hZ hM0 hy0 dX0_init_104 ?_
    generalize Int32.ofNat y0.2.1 = n40 at hw ⊢
    refine lv_icmp_ge (tgt := 194) hx hb dX0_init_105 (by decide) (fun c78 => ?_) (fun c78 => ?_)
    · replace hw := hw.1 c78
      refine lv_aload_n hx hb dX0_init_194 rfl (lv_at hl 0 rfl) ?_
      refine lv_sipush (v := 240) hx hb dX0_init_195 (by decide) ?_
      obtain ⟨hx1, hx2, hk1, hn1, hw⟩ := hw
      refine z_newa (k := 1) (a0 := zna 1 (240 : Int32).toNatClampNeg) (atype := .byte) hC hZ q219 rfl (by decide) (fun _ => rfl) hx1 rfl (z_bytes hx2 (by decide)) (show cells + 1 ≤ K by omega) (show slots + (240 : Int32).toNatClampNeg ≤ N by omega) dX0_init_198 (fun b41 H hq0 hq1 hZ => ?_)
      replace hw := hw b41 hq0 hq1
      replace hZ : zS D (zu M b41 (some (.inl (1, zna 1 (240 : Int32).toNatClampNeg)))) _ _ := hZ
      refine W.cs (cells' := cells + 1) (slots' := slots + (240 : Int32).toNatClampNeg) rfl rfl ?_
      generalize zu M _ _ = M at hw hZ
      have hk : cells + 1 + (k - 1) ≤ K := by omega
      have hn : slots + (240 : Int32).toNatClampNeg + (n - (240 : Int32).toNatClampNeg) ≤ N := by omega
      generalize cells + 1 = cells at hk ⊢
      generalize slots + (240 : Int32).toNatClampNeg = slots at hn ⊢
      clear hk1 hn1 hx1 hx2
      obtain ⟨fs0, hM0, hb0, hk0, hw⟩ := hw
      refine z_putF hC hZ hM0 hb0 zc0 1 (by decide) q400 (fun _ h9 => h9) (by decide) hG.2.2.2.1 rfl rfl rfl hk0 dX0_init_200 (fun H locs hZ => ?_)
      generalize zu M _ _ = M at hw hZ
      refine lv_aload_n hx hb dX0_init_203 rfl (lv_at hl 0 rfl) ?_
      refine lv_bipush (v := 120) hx hb dX0_init_204 (by decide) ?_
      obtain ⟨hx1, hx2, hk1, hn1, hw⟩ := hw
      refine z_newa (k := 1) (a0 := zna 1 (120 : Int32).toNatClampNeg) (atype := .byte) hC hZ q219 rfl (by decide) (fun _ => rfl) hx1 rfl (z_bytes hx2 (by decide)) (show cells + 1 ≤ K by omega) (show slots + (120 : Int32).toNatClampNeg ≤ N by omega) dX0_init_206 (fun b42 H hq0 hq1 hZ => ?_)
      replace hw := hw b42 hq0 hq1
      replace hZ : zS D (zu M b42 (some (.inl (1, zna 1 (120 : Int32).toNatClampNeg)))) _ _ := hZ
      refine W.cs (cells' := cells + 1) (slots' := slots + (120 : Int32).toNatClampNeg) rfl rfl ?_
      generalize zu M _ _ = M at hw hZ
      have hk : cells + 1 + ((k - 1) - 1) ≤ K := by omega
      have hn : slots + (120 : Int32).toNatClampNeg + ((n - (240 : Int32).toNatClampNeg) - (120 : Int32).toNatClampNeg) ≤ N := by omega
      generalize cells + 1 = cells at hk ⊢
      generalize slots + (120 : Int32).toNatClampNeg = slots at hn ⊢
      clear hk1 hn1 hx1 hx2
      obtain ⟨fs0, hM0, hb0, hk0, hw⟩ := hw
      refine z_putF hC hZ hM0 hb0 zc0 3 (by decide) q402 (fun _ h9 => h9) (by decide) hG.2.2.2.1 rfl rfl rfl hk0 dX0_init_208 (fun H locs hZ => ?_)
      generalize zu M _ _ = M at hw hZ
      refine lv_aload_n hx hb dX0_init_211 rfl (lv_at hl 0 rfl) ?_
      refine lv_iconst (v := 4) hx hb dX0_init_212 (by decide) ?_
      obtain ⟨hx1, hx2, hk1, hn1, hw⟩ := hw
      refine z_newq (k := 8) hC hZ q383 (by decide) rfl hx1 rfl (z_bytes hx2 (by decide)) (show cells + 1 ≤ K by omega) (show slots + (4 : Int32).toNatClampNeg ≤ N by omega) dX0_init_213 (fun b43 H hq0 hq1 hZ => ?_)
      replace hw := hw b43 hq0 hq1
      replace hZ : zS D (zu M b43 (some (.inl (8, zna 8 (4 : Int32).toNatClampNeg)))) _ _ := hZ
      refine W.cs (cells' := cells + 1) (slots' := slots + (4 : Int32).toNatClampNeg) rfl rfl ?_
      generalize zu M _ _ = M at hw hZ
      have hk : cells + 1 + (((k - 1) - 1) - 1) ≤ K := by omega
      have hn : slots + (4 : Int32).toNatClampNeg + (((n - (240 : Int32).toNatClampNeg) - (120 : Int32).toNatClampNeg) - (4 : Int32).toNatClampNeg) ≤ N := by omega
      generalize cells + 1 = cells at hk ⊢
      generalize slots + (4 : Int32).toNatClampNeg = slots at hn ⊢
      clear hk1 hn1 hx1 hx2
      obtain ⟨fs0, hM0, hb0, hk0, hw⟩ := hw
      refine z_putF hC hZ hM0 hb0 zc0 5 (by decide) q406 (fun _ h9 => h9) (by decide) hG.2.2.2.1 rfl rfl rfl hk0 dX0_init_216 (fun H locs hZ => ?_)
      generalize zu M _ _ = M at hw hZ
      refine lv_aload_n hx hb dX0_init_219 rfl (lv_at hl 0 rfl) ?_
      refine lv_iconst (v := 5) hx hb dX0_init_220 (by decide) ?_
      obtain ⟨hx1, hx2, hk1, hn1, hw⟩ := hw
      refine z_newq (k := 9) hC hZ q385 (by decide) rfl hx1 rfl (z_bytes hx2 (by decide)) (show cells + 1 ≤ K by omega) (show slots + (5 : Int32).toNatClampNeg ≤ N by omega) dX0_init_221 (fun b44 H hq0 hq1 hZ => ?_)
      replace hw := hw b44 hq0 hq1
      replace hZ : zS D (zu M b44 (some (.inl (9, zna 9 (5 : Int32).toNatClampNeg)))) _ _ := hZ
      refine W.cs (cells' := cells + 1) (slots' := slots + (5 : Int32).toNatClampNeg) rfl rfl ?_
      generalize zu M _ _ = M at hw hZ
      have hk : cells + 1 + ((((k - 1) - 1) - 1) - 1) ≤ K := by omega
      have hn : slots + (5 : Int32).toNatClampNeg + ((((n - (240 : Int32).toNatClampNeg) - (120 : Int32).toNatClampNeg) - (4 : Int32).toNatClampNeg) - (5 : Int32).toNatClampNeg) ≤ N := by omega
      generalize cells + 1 = cells at hk ⊢
      generalize slots + (5 : Int32).toNatClampNeg = slots at hn ⊢
      clear hk1 hn1 hx1 hx2
      obtain ⟨fs0, hM0, hb0, hk0, hw⟩ := hw
      refine z_putF hC hZ hM0 hb0 zc0 6 (by decide) q407 (fun _ h9 => h9) (by decide) hG.2.2.2.1 rfl rfl rfl hk0 dX0_init_224 (fun H locs hZ => ?_)
      generalize zu M _ _ = M at hw hZ
      refine lv_aload_n hx hb dX0_init_227 rfl (lv_at hl 0 rfl) ?_
      refine lv_iconst (v := 3) hx hb dX0_init_228 (by decide) ?_
      obtain ⟨hx1, hx2, hk1, hn1, hw⟩ := hw
      refine z_newq (k := 10) hC hZ q387 (by decide) rfl hx1 rfl (z_bytes hx2 (by decide)) (show cells + 1 ≤ K by omega) (show slots + (3 : Int32).toNatClampNeg ≤ N by omega) dX0_init_229 (fun b45 H hq0 hq1 hZ => ?_)
      replace hw := hw b45 hq0 hq1
      replace hZ : zS D (zu M b45 (some (.inl (10, zna 10 (3 : Int32).toNatClampNeg)))) _ _ := hZ
      refine W.cs (cells' := cells + 1) (slots' := slots + (3 : Int32).toNatClampNeg) rfl rfl ?_
      generalize zu M _ _ = M at hw hZ
      have hk : cells + 1 + (((((k - 1) - 1) - 1) - 1) - 1) ≤ K := by omega
      have hn : slots + (3 : Int32).toNatClampNeg + (((((n - (240 : Int32).toNatClampNeg) - (120 : Int32).toNatClampNeg) - (4 : Int32).toNatClampNeg) - (5 : Int32).toNatClampNeg) - (3 : Int32).toNatClampNeg) ≤ N := by omega
      generalize cells + 1 = cells at hk ⊢
      generalize slots + (3 : Int32).toNatClampNeg = slots at hn ⊢
      clear hk1 hn1 hx1 hx2
      refine lv_dup hx hb dX0_init_232 rfl ?_
      refine lv_iconst (v := 0) hx hb dX0_init_233 (by decide) ?_
      obtain ⟨hk1, hn1, hw⟩ := hw
      refine z_new (fs := [.null]) hC hZ zc7 q387 q389 q82 (zdefs (N := 1) (ty := tyX8) (fs := [.null]) (by decide)) (show cells + 1 ≤ K by omega) (show slots + 1 ≤ N by omega) dX0_init_234 (fun b46 H hq0 hq1 hZ => ?_)
      replace hw := hw b46 hq0 hq1
      generalize zu M _ _ = M at hw hZ
      have hk : cells + 1 + ((((((k - 1) - 1) - 1) - 1) - 1) - 1) ≤ K := by omega
      have hn : slots + 1 + ((((((n - (240 : Int32).toNatClampNeg) - (120 : Int32).toNatClampNeg) - (4 : Int32).toNatClampNeg) - (5 : Int32).toNatClampNeg) - (3 : Int32).toNatClampNeg) - 1) ≤ N := by omega
      generalize cells + 1 = cells at hk ⊢
      generalize slots + 1 = slots at hn ⊢
      clear hk1 hn1
      refine lv_dup hx hb dX0_init_237 rfl ?_
      refine z_callU hZ (vx_runIN (As := []) (rest := [.ref b46, .int (0 : Int32), .ref b45, .ref b45, .ref o]) hC.fix (w_X8_init hlt hw) ⟨va_cnB 0 hts (lw_meth q392) rfl rfl rfl (hC.nw q390 rfl) (hts _ q82) dd_X8_init ⟨Nat.le_of_ble_eq_true rfl, Nat.le_of_ble_eq_true rfl⟩, rfl, hts _ q391⟩ (z_preS hC hZ) rfl rfl hl.1 rfl (lv_room (Nat.le_trans (zrm1 rfl (zrm1 rfl (zrm1 rfl (zrm1 rfl (zrm1 rfl zrm0))))) (Nat.le_of_ble_eq_true rfl))) dX0_init_238 ⟨(show cells + 0 ≤ K by omega), (show slots + 0 ≤ N by omega)⟩) (fun r47 M H locs hw1 hZ => ?_) (fun q M H locs ci fs E T9 N9 hw hZ hc1 hM1 hb1 => False.elim hw)
      replace hw := hw1
      clear hw1
      refine W.cs (cells' := cells) (slots' := slots) rfl rfl ?_
      obtain ⟨n0, f0, hM0, hb0, hi0, hv0, hw⟩ := hw
      refine z_aastO (r := (some b46)) hC hZ hM0 hb0 rfl hv0 hi0 dX0_init_241 (fun H locs hZ => ?_)
      generalize zu M _ _ = M at hw hZ
      refine lv_dup hx hb dX0_init_242 rfl ?_
      refine lv_iconst (v := 1) hx hb dX0_init_243 (by decide) ?_
      obtain ⟨hk1, hn1, hw⟩ := hw
      refine z_new (fs := [.null]) hC hZ zc7 q387 q389 q82 (zdefs (N := 1) (ty := tyX8) (fs := [.null]) (by decide)) (show cells + 1 ≤ K by omega) (show slots + 1 ≤ N by omega) dX0_init_244 (fun b50 H hq0 hq1 hZ => ?_)
      replace hw := hw b50 hq0 hq1
      generalize zu M _ _ = M at hw hZ
      have hk : cells + 1 + (((((((k - 1) - 1) - 1) - 1) - 1) - 1) - 1) ≤ K := by omega
      have hn : slots + 1 + (((((((n - (240 : Int32).toNatClampNeg) - (120 : Int32).toNatClampNeg) - (4 : Int32).toNatClampNeg) - (5 : Int32).toNatClampNeg) - (3 : Int32).toNatClampNeg) - 1) - 1) ≤ N := by omega
      generalize cells + 1 = cells at hk ⊢
      generalize slots + 1 = slots at hn ⊢
      clear hk1 hn1
      refine lv_dup hx hb dX0_init_247 rfl ?_
      refine z_callU hZ (vx_runIN (As := []) (rest := [.ref b50, .int (1 : Int32), .ref b45, .ref b45, .ref o]) hC.fix (w_X8_init hlt hw) ⟨va_cnB 0 hts (lw_meth q392) rfl rfl rfl (hC.nw q390 rfl) (hts _ q82) dd_X8_init ⟨Nat.le_of_ble_eq_true rfl, Nat.le_of_ble_eq_true rfl⟩, rfl, hts _ q391⟩ (z_preS hC hZ) rfl rfl hl.1 rfl (lv_room (Nat.le_trans (zrm1 rfl (zrm1 rfl (zrm1 rfl (zrm1 rfl (zrm1 rfl zrm0))))) (Nat.le_of_ble_eq_true rfl))) dX0_init_248 ⟨(show cells + 0 ≤ K by omega), (show slots + 0 ≤ N by omega)⟩) (fun r51 M H locs hw1 hZ => ?_) (fun q M H locs ci fs E T9 N9 hw hZ hc1 hM1 hb1 => False.elim hw)
      replace hw := hw1
      clear hw1
      refine W.cs (cells' := cells) (slots' := slots) rfl rfl ?_
      obtain ⟨n0, f0, hM0, hb0, hi0, hv0, hw⟩ := hw
      refine z_aastO (r := (some b50)) hC hZ hM0 hb0 rfl hv0 hi0 dX0_init_251 (fun H locs hZ => ?_)
      generalize zu M _ _ = M at hw hZ
      refine lv_dup hx hb dX0_init_252 rfl ?_
      refine lv_iconst (v := 2) hx hb dX0_init_253 (by decide) ?_
      obtain ⟨hk1, hn1, hw⟩ := hw
      refine z_new (fs := [.null]) hC hZ zc7 q387 q389 q82 (zdefs (N := 1) (ty := tyX8) (fs := [.null]) (by decide)) (show cells + 1 ≤ K by omega) (show slots + 1 ≤ N by omega) dX0_init_254 (fun b54 H hq0 hq1 hZ => ?_)
      replace hw := hw b54 hq0 hq1
      generalize zu M _ _ = M at hw hZ
      have hk : cells + 1 + ((((((((k - 1) - 1) - 1) - 1) - 1) - 1) - 1) - 1) ≤ K := by omega
      have hn : slots + 1 + ((((((((n - (240 : Int32).toNatClampNeg) - (120 : Int32).toNatClampNeg) - (4 : Int32).toNatClampNeg) - (5 : Int32).toNatClampNeg) - (3 : Int32).toNatClampNeg) - 1) - 1) - 1) ≤ N := by omega
      generalize cells + 1 = cells at hk ⊢
      generalize slots + 1 = slots at hn ⊢
      clear hk1 hn1
      refine lv_dup hx hb dX0_init_257 rfl ?_
      refine z_callU hZ (vx_runIN (As := []) (rest := [.ref b54, .int (2 : Int32), .ref b45, .ref b45, .ref o]) hC.fix (w_X8_init hlt hw) ⟨va_cnB 0 hts (lw_meth q392) rfl rfl rfl (hC.nw q390 rfl) (hts _ q82) dd_X8_init ⟨Nat.le_of_ble_eq_true rfl, Nat.le_of_ble_eq_true rfl⟩, rfl, hts _ q391⟩ (z_preS hC hZ) rfl rfl hl.1 rfl (lv_room (Nat.le_trans (zrm1 rfl (zrm1 rfl (zrm1 rfl (zrm1 rfl (zrm1 rfl zrm0))))) (Nat.le_of_ble_eq_true rfl))) dX0_init_258 ⟨(show cells + 0 ≤ K by omega), (show slots + 0 ≤ N by omega)⟩) (fun r55 M H locs hw1 hZ => ?_) (fun q M H locs ci fs E T9 N9 hw hZ hc1 hM1 hb1 => False.elim hw)
      replace hw := hw1
      clear hw1
      refine W.cs (cells' := cells) (slots' := slots) rfl rfl ?_
      obtain ⟨n0, f0, hM0, hb0, hi0, hv0, hw⟩ := hw
      refine z_aastO (r := (some b54)) hC hZ hM0 hb0 rfl hv0 hi0 dX0_init_261 (fun H locs hZ => ?_)
      generalize zu M _ _ = M at hw hZ
      obtain ⟨fs0, hM0, hb0, hk0, hw⟩ := hw
      refine z_putF hC hZ hM0 hb0 zc0 7 (by decide) q408 (fun _ h9 => h9) (by decide) hG.2.2.2.1 rfl rfl rfl hk0 dX0_init_262 (fun H locs hZ => ?_)
      generalize zu M _ _ = M at hw hZ
      exact z_vret hG hZ (by omega) (by omega) hw dX0_init_265
    · replace hw := hw.2 c78
      refine lv_aload_n hx hb dX0_init_108 rfl (lv_at hl 0 rfl) ?_
      obtain ⟨fs0, g63, hM0, hx0, hw⟩ := hw
      refine z_get hC hZ hM0 zc0 0 (by decide) q399 (fun _ h9 => h9) hx0 dX0_init_109 ?_
      refine z_gets hC hZ hC.K.2.2.2.2.2.1.1 q381 (fun _ h9 => h9) dX0_init_112 ?_
      refine lv_iload_n hx hb dX0_init_115 rfl (lv_at hl 1 rfl) ?_
      obtain ⟨n0, f0, hM0, hi0, hw⟩ := hw
      refine z_iald hC hZ hM0 hi0 dX0_init_116 ?_
      generalize f0 _ = v64 at hw ⊢
      obtain ⟨b65, hr0, hw⟩ := hw
      subst hr0
      obtain ⟨n0, f0, v66, hM0, hi0, hr0, hw⟩ := hw
      refine z_aald hC hZ hM0 (by decide) rfl hi0 hr0 dX0_init_117 ?_
      refine lv_iconst (v := 0) hx hb dX0_init_118 (by decide) ?_
      refine lv_bipush (v := 6) hx hb dX0_init_119 (by decide) ?_
      obtain ⟨hx1, hx2, hk1, hn1, hw⟩ := hw
      refine z_newa (k := 0) (a0 := zna 0 (6 : Int32).toNatClampNeg) (atype := .int) hC hZ q336 rfl (by decide) (fun _ => rfl) hx1 rfl (z_bytes hx2 (by decide)) (show cells + 1 ≤ K by omega) (show slots + (6 : Int32).toNatClampNeg ≤ N by omega) dX0_init_121 (fun b67 H hq0 hq1 hZ => ?_)
      replace hw := hw b67 hq0 hq1
      replace hZ : zS D (zu M b67 (some (.inl (0, zna 0 (6 : Int32).toNatClampNeg)))) _ _ := hZ
      refine W.cs (cells' := cells + 1) (slots' := slots + (6 : Int32).toNatClampNeg) rfl rfl ?_
      generalize zu M _ _ = M at hw hZ
      have hk : cells + 1 + (k - 1) ≤ K := by omega
      have hn : slots + (6 : Int32).toNatClampNeg + (n - (6 : Int32).toNatClampNeg) ≤ N := by omega
      generalize cells + 1 = cells at hk ⊢
      generalize slots + (6 : Int32).toNatClampNeg = slots at hn ⊢
      clear hk1 hn1 hx1 hx2
      refine lv_dup hx hb dX0_init_123 rfl ?_
      refine lv_iconst (v := 0) hx hb dX0_init_124 (by decide) ?_
      refine z_gets hC hZ hC.K.2.2.2.2.2.1.1 q381 (fun _ h9 => h9) dX0_init_125 ?_
      refine lv_iload_n hx hb dX0_init_128 rfl (lv_at hl 1 rfl) ?_
      refine lv_iconst (v := 1) hx hb dX0_init_129 (by decide) ?_
      refine lv_iadd hx hb dX0_init_130 ?_
      obtain ⟨n0, f0, hM0, hi0, hw⟩ := hw
      refine z_iald hC hZ hM0 hi0 dX0_init_131 ?_
      generalize f0 _ = v68 at hw ⊢
      obtain ⟨n0, f0, hM0, hb0, hi0, hw⟩ := hw
      refine z_iast hC hZ hM0 hb0 hi0 dX0_init_132 (fun H locs hZ => ?_)
      generalize zu M _ _ = M at hw hZ
      refine lv_dup hx hb dX0_init_133 rfl ?_
      refine lv_iconst (v := 1) hx hb dX0_init_134 (by decide) ?_
      refine z_gets hC hZ hC.K.2.2.2.2.2.1.1 q381 (fun _ h9 => h9) dX0_init_135 ?_
      refine lv_iload_n hx hb dX0_init_138 rfl (lv_at hl 1 rfl) ?_
      refine lv_iconst (v := 2) hx hb dX0_init_139 (by decide) ?_
      refine lv_iadd hx hb dX0_init_140 ?_
      obtain ⟨n0, f0, hM0, hi0, hw⟩ := hw
      refine z_iald hC hZ hM0 hi0 dX0_init_141 ?_
      generalize f0 _ = v69 at hw ⊢
      obtain ⟨n0, f0, hM0, hb0, hi0, hw⟩ := hw
      refine z_iast hC hZ hM0 hb0 hi0 dX0_init_142 (fun H locs hZ => ?_)
      generalize zu M _ _ = M at hw hZ
      refine lv_dup hx hb dX0_init_143 rfl ?_
      refine lv_iconst (v := 2) hx hb dX0_init_144 (by decide) ?_
      refine z_gets hC hZ hC.K.2.2.2.2.2.1.1 q381 (fun _ h9 => h9) dX0_init_145 ?_
      refine lv_iload_n hx hb dX0_init_148 rfl (lv_at hl 1 rfl) ?_
      refine lv_iconst (v := 3) hx hb dX0_init_149 (by decide) ?_
      refine lv_iadd hx hb dX0_init_150 ?_
      obtain ⟨n0, f0, hM0, hi0, hw⟩ := hw
      refine z_iald hC hZ hM0 hi0 dX0_init_151 ?_
      generalize f0 _ = v70 at hw ⊢
      obtain ⟨n0, f0, hM0, hb0, hi0, hw⟩ := hw
      refine z_iast hC hZ hM0 hb0 hi0 dX0_init_152 (fun H locs hZ => ?_)
      generalize zu M _ _ = M at hw hZ
      refine lv_dup hx hb dX0_init_153 rfl ?_
      refine lv_iconst (v := 3) hx hb dX0_init_154 (by decide) ?_
      refine z_gets hC hZ hC.K.2.2.2.2.2.1.1 q381 (fun _ h9 => h9) dX0_init_155 ?_
      refine lv_iload_n hx hb dX0_init_158 rfl (lv_at hl 1 rfl) ?_
      refine lv_iconst (v := 4) hx hb dX0_init_159 (by decide) ?_
      refine lv_iadd hx hb dX0_init_160 ?_
      obtain ⟨n0, f0, hM0, hi0, hw⟩ := hw
      refine z_iald hC hZ hM0 hi0 dX0_init_161 ?_
      generalize f0 _ = v71 at hw ⊢
      obtain ⟨n0, f0, hM0, hb0, hi0, hw⟩ := hw
      refine z_iast hC hZ hM0 hb0 hi0 dX0_init_162 (fun H locs hZ => ?_)
      generalize zu M _ _ = M at hw hZ
      refine lv_dup hx hb dX0_init_163 rfl ?_
      refine lv_iconst (v := 4) hx hb dX0_init_164 (by decide) ?_
      refine z_gets hC hZ hC.K.2.2.2.2.2.1.1 q381 (fun _ h9 => h9) dX0_init_165 ?_
      refine lv_iload_n hx hb dX0_init_168 rfl (lv_at hl 1 rfl) ?_
      refine lv_iconst (v := 5) hx hb dX0_init_169 (by decide) ?_
      refine lv_iadd hx hb dX0_init_170 ?_
      obtain ⟨n0, f0, hM0, hi0, hw⟩ := hw
      refine z_iald hC hZ hM0 hi0 dX0_init_171 ?_
      generalize f0 _ = v72 at hw ⊢
      obtain ⟨n0, f0, hM0, hb0, hi0, hw⟩ := hw
      refine z_iast hC hZ hM0 hb0 hi0 dX0_init_172 (fun H locs hZ => ?_)
      generalize zu M _ _ = M at hw hZ
      refine lv_dup hx hb dX0_init_173 rfl ?_
      refine lv_iconst (v := 5) hx hb dX0_init_174 (by decide) ?_
      refine z_gets hC hZ hC.K.2.2.2.2.2.1.1 q381 (fun _ h9 => h9) dX0_init_175 ?_
      refine lv_iload_n hx hb dX0_init_178 rfl (lv_at hl 1 rfl) ?_
      refine lv_bipush (v := 6) hx hb dX0_init_179 (by decide) ?_
      refine lv_iadd hx hb dX0_init_181 ?_
      obtain ⟨n0, f0, hM0, hi0, hw⟩ := hw
      refine z_iald hC hZ hM0 hi0 dX0_init_182 ?_
      generalize f0 _ = v73 at hw ⊢
      obtain ⟨n0, f0, hM0, hb0, hi0, hw⟩ := hw
      refine z_iast hC hZ hM0 hb0 hi0 dX0_init_183 (fun H locs hZ => ?_)
      generalize zu M _ _ = M at hw hZ
      obtain ⟨b74, hr0, hw⟩ := hw
      subst hr0
      obtain ⟨⟨ci0, fs0, hci0, hM0⟩, hw⟩ := hw
      obtain ⟨k76, n77, hk1, hn1, hw⟩ := hw
      obtain ⟨C0, T0, N0, ty0, hc0, hsel0⟩ : ∃ (C0 : String) (T0 : u_T) (N0 : Nat) (ty0 : Nat → FieldType), zCls ci0 C0 T0 N0 ty0 ∧ Cond.selects C0 ⟨"PluralBranches$Language", "with", "(Z[I)LPluralBranches$Language;"⟩ yX2_with ∈ lw_all := (zal ⟨_, _, _, _, zc2, q2254⟩ (zal ⟨_, _, _, _, zc4, q2253⟩ (zal ⟨_, _, _, _, zc5, q2252⟩ (zal ⟨_, _, _, _, zc6, q2255⟩ (za0)))) : ∀ ci ∈ [2, 4, 5, 6], ∃ (C0 : String) (T0 : u_T) (N0 : Nat) (ty0 : Nat → FieldType), zCls ci C0 T0 N0 ty0 ∧ Cond.selects C0 ⟨"PluralBranches$Language", "with", "(Z[I)LPluralBranches$Language;"⟩ yX2_with ∈ lw_all) ci0 hci0
      refine z_callR hZ (vx_runU (As := [.int (0 : Int32), .ref b67]) (rest := []) hC.fix (w_X2_with hlt hw) (va_cwU (owner := "PluralBranches$Language") (x := ⟨"PluralBranches$Language", "with", "(Z[I)LPluralBranches$Language;"⟩) 2 hts (lw_app (zal q349 (zal q2251 (zal hsel0 (zal q304 (zal q70 za0))))) (lw_meth q305)) rfl rfl rfl rfl (by decide +kernel) ⟨Nat.le_of_ble_eq_true rfl, Nat.le_of_ble_eq_true rfl⟩) (z_preV hC hZ hM0 hc0) rfl rfl hl.1 rfl (lv_room (Nat.zero_le _)) dX0_init_184 ⟨(show cells + k76 ≤ K by omega), (show slots + n77 ≤ N by omega)⟩) (fun r75 M H locs hw1 hZ => ?_) (fun q M H locs ci fs E T9 N9 hw hZ hc1 hM1 hb1 => False.elim hw)
      replace hw := hw1
      clear hw1
      have hk : cells + k76 + ((k - 1) - k76) ≤ K := by omega
      have hn : slots + n77 + ((n - (6 : Int32).toNatClampNeg) - n77) ≤ N := by omega
      generalize cells + k76 = cells at hk ⊢
      generalize slots + n77 = slots at hn ⊢
      clear hk1 hn1
      refine lv_pop hx hb dX0_init_187 (zcat _) ?_
      refine lv_iinc (v := (x2 + 7)) (lv' := [(2, .int (x2 + 7)), (0, .ref o)]) hx hb dX0_init_188 hl (k := 1) rfl rfl (by decide) rfl (fun ls hl1 => ?_)
      replace hl := hl1
      clear hl1
      refine lv_goto (tgt := 100) hx hb dX0_init_191 (by decide) ?_
      exact ih _ _ _ _ hk hn hZ (lv_sub hl [1, 0] rfl) hw
def wp_X0_init_L66 (D : zD) (post : Unit → zM → Prop) (o : Nat) : Nat → Nat → Nat → Option Nat → Int32 → zM → Prop
  | 0 => fun _ _ _ _ _ => False
  | f + 1 => fun k n x1 x2 M =>
    (((7 : Int32) ≤ x2 → (∃ f, wp_X0_init_L100 D post o f k n (0 : Int32) M)) ∧ (¬ (7 : Int32) ≤ x2 → (zgR M o 0 0 fun g79 => ((∃ k81 n82, k81 ≤ k ∧ n82 ≤ n ∧ wp_X0_languageOf D (fun r80 M => ((zd g79 fun b83 => zsR D M b83 6 x2 r80 fun M => (zgR M o 0 0 fun g84 => ((zd g84 fun b85 => zaR M b85 6 x2 fun v86 => ((zd v86 fun b87 => zpm D M b87 [(2, 1), (4, 1), (5, 1), (6, 1)] (va_rf x1) fun M => wp_X0_init_L66 D post o f (k - k81) (n - n82) x1 (x2 + 1) M)))))))) k81 n82 x2 M)))))
set_option maxHeartbeats 4000000 in
set_option maxRecDepth 100000 in
theorem wk_X0_init_L66 {p : Program} {l : Launch} {e : Env} {s : State} {m : MethodId} {args : Array Value} {below : List Frame} {meth : Method} {c : Code} {D : zD} {post : Unit → zM → Prop} {K N : Nat} {o : Nat} (hG : zGx p l s m args meth c cX0_init 3 "PluralBranches" D (none) "<init>" []) : ∀ (f : Nat), ∀ {H : Heap} {locs : List Loc} {cells slots : Nat} {ls : Array Slot} (k : Nat) (n : Nat) (x1 : Option Nat) (x2 : Int32) (M : zM), cells + k ≤ K → slots + n ≤ N → zS D M H locs → lv_has ls 3 [(0, .ref o), (1, va_rf x1), (2, .int x2)] → wp_X0_init_L66 D post o f k n x1 x2 M → W p l e (rm_X0_init K N) s m args below meth c H locs cells slots (vx_MQ below (zQ D zU post) (zX D (fun _ _ => False)) args s K N (zA D)) (F0 m 66 ls []) := by
  have hC := hG.1
  have hx := hC.x
  have hb := hC.b
  have hown := hC.o
  have hts := hC.ts
  have hlt := hG.2.2.2.2.2
  intro f
  induction f with
  | zero =>
    intro H locs cells slots ls k n x1 x2 M hk hn hZ hl hw
    exact absurd hw (fun h => h)
  | succ f ih =>
    intro H locs cells slots ls k n x1 x2 M hk hn hZ hl hw
    refine lv_iload_n hx hb dX0_init_66 rfl (lv_at hl 2 rfl) ?_
    refine lv_bipush (v := 7) hx hb dX0_init_67 (by decide) ?_
    refine lv_icmp_ge (tgt := 98) hx hb dX0_init_69 (by decide) (fun c100 => ?_) (fun c100 => ?_)
    · replace hw := hw.1 c100
      refine lv_iconst (v := 0) hx hb dX0_init_98 (by decide) ?_
      refine lv_istore_n (i := 2) (lv' := [(2, .int (0 : Int32)), (0, .ref o), (1, va_rf x1)]) hx hb dX0_init_99 rfl hl (by decide) (zfc rfl (zfk rfl (zfk (zfa rfl) (zfd rfl rfl)))) (fun ls hl1 => ?_)
      replace hl := hl1
      clear hl1
      obtain ⟨f1, hw⟩ := hw
      exact wk_X0_init_L100 hG f1 _ _ _ _ hk hn hZ (lv_sub hl [1, 0] rfl) hw
    · replace hw := hw.2 c100
      refine lv_aload_n hx hb dX0_init_72 rfl (lv_at hl 0 rfl) ?_
      obtain ⟨fs0, g90, hM0, hx0, hw⟩ := hw
      refine z_get hC hZ hM0 zc0 0 (by decide) q399 (fun _ h9 => h9) hx0 dX0_init_73 ?_
      refine lv_iload_n hx hb dX0_init_76 rfl (lv_at hl 2 rfl) ?_
      refine lv_iload_n hx hb dX0_init_77 rfl (lv_at hl 2 rfl) ?_
      obtain ⟨k92, n93, hk1, hn1, hw⟩ := hw
      refine z_callR hZ (vx_runS (As := [.int x2]) (rest := [.int x2, va_rf g90]) hC.fix (w_X0_languageOf hlt hw) (va_cwS 1 hts (lw_S q177 q178 q67 q179) rfl rfl rfl dd_X0_languageOf ⟨Nat.le_of_ble_eq_true rfl, Nat.le_of_ble_eq_true rfl⟩) (z_preS hC hZ) rfl rfl hl.1 rfl (lv_room (Nat.le_trans (zrm1 rfl (zrm1 (zcat _) zrm0)) (Nat.le_of_ble_eq_true rfl))) dX0_init_78 ⟨(show cells + k92 ≤ K by omega), (show slots + n93 ≤ N by omega)⟩) (fun r91 M H locs hw1 hZ => ?_) (fun q M H locs ci fs E T9 N9 hw hZ hc1 hM1 hb1 => False.elim hw)
      replace hw := hw1
      clear hw1
      have hk : cells + k92 + (k - k92) ≤ K := by omega
      have hn : slots + n93 + (n - n93) ≤ N := by omega
      generalize cells + k92 = cells at hk ⊢
      generalize slots + n93 = slots at hn ⊢
      clear hk1 hn1
      obtain ⟨b94, hr0, hw⟩ := hw
      subst hr0
      obtain ⟨n0, f0, hM0, hb0, hi0, hv0, hw⟩ := hw
      refine z_aastO (r := r91) hC hZ hM0 hb0 rfl hv0 hi0 dX0_init_81 (fun H locs hZ => ?_)
      generalize zu M _ _ = M at hw hZ
      refine lv_aload_n hx hb dX0_init_82 rfl (lv_at hl 0 rfl) ?_
      obtain ⟨fs0, g95, hM0, hx0, hw⟩ := hw
      refine z_get hC hZ hM0 zc0 0 (by decide) q399 (fun _ h9 => h9) hx0 dX0_init_83 ?_
      refine lv_iload_n hx hb dX0_init_86 rfl (lv_at hl 2 rfl) ?_
      obtain ⟨b96, hr0, hw⟩ := hw
      subst hr0
      obtain ⟨n0, f0, v97, hM0, hi0, hr0, hw⟩ := hw
      refine z_aald hC hZ hM0 (by decide) rfl hi0 hr0 dX0_init_87 ?_
      refine z_aload_n hC dX0_init_88 rfl (lv_at hl 1 rfl) ?_
      obtain ⟨b98, hr0, hw⟩ := hw
      subst hr0
      obtain ⟨q0, fs0, hL0, hM0, hb0, hk0, hw⟩ := hw
      refine z_putNm hC hZ hM0 hb0 (L := [(2, 1), (4, 1), (5, 1), (6, 1)]) (ref := "PluralBranches$Language") (index := 29) (ty0 := (.array (.object "PluralBranches$Decimal"))) (zal (⟨_, _, _, _, zc2, by decide, q290, (fun _ h9 => h9), rfl, by decide⟩) (zal (⟨_, _, _, _, zc4, by decide, q290, (fun _ h9 => h9), rfl, by decide⟩) (zal (⟨_, _, _, _, zc5, by decide, q290, (fun _ h9 => h9), rfl, by decide⟩) (zal (⟨_, _, _, _, zc6, by decide, q290, (fun _ h9 => h9), rfl, by decide⟩) (za0))))) hL0  zrf_narA zrf_fitA hk0 dX0_init_89 (fun H locs hZ => ?_)
      generalize zu M _ _ = M at hw hZ
      refine lv_iinc (v := (x2 + 1)) (lv' := [(2, .int (x2 + 1)), (0, .ref o), (1, va_rf x1)]) hx hb dX0_init_92 hl (k := 2) rfl rfl (by decide) (zfc rfl (zfk rfl (zfk (zfa rfl) (zfd rfl rfl)))) (fun ls hl1 => ?_)
      replace hl := hl1
      clear hl1
      refine lv_goto (tgt := 66) hx hb dX0_init_95 (by decide) ?_
      exact ih _ _ _ _ _ hk hn hZ (lv_sub hl [1, 2, 0] rfl) hw
def wp_X0_init_L22 (D : zD) (post : Unit → zM → Prop) (o : Nat) : Nat → Nat → Nat → Option Nat → Int32 → zM → Prop
  | 0 => fun _ _ _ _ _ => False
  | f + 1 => fun k n x1 x2 M =>
    (((210 : Int32) < x2 → (∃ f, wp_X0_init_L66 D post o f k n x1 (0 : Int32) M)) ∧ (¬ (210 : Int32) < x2 → (znew D M 1 6 [.int 0, .int 0, .long 0, .long 0, .int 0, .long 0] k n fun b101 M => (wp_X1_init D (fun _ M => ((zd x1 fun b105 => zsR D M b105 7 ((2 : Int32) * x2) (some b101) fun M => (znew D M 1 6 [.int 0, .int 0, .long 0, .long 0, .int 0, .long 0] (k - 1) (n - 6) fun b106 M => (wp_X1_init_2 D (fun _ M => (zsR D M b105 7 (((2 : Int32) * x2) + (1 : Int32)) (some b106) fun M => wp_X0_init_L22 D post o f ((k - 1) - 1) ((n - 6) - 6) (some b105) (x2 + 1) M)) b106 x2 (1 : Int32) M))))) b101 x2 M))))
set_option maxHeartbeats 4000000 in
set_option maxRecDepth 100000 in
theorem wk_X0_init_L22 {p : Program} {l : Launch} {e : Env} {s : State} {m : MethodId} {args : Array Value} {below : List Frame} {meth : Method} {c : Code} {D : zD} {post : Unit → zM → Prop} {K N : Nat} {o : Nat} (hG : zGx p l s m args meth c cX0_init 3 "PluralBranches" D (none) "<init>" []) : ∀ (f : Nat), ∀ {H : Heap} {locs : List Loc} {cells slots : Nat} {ls : Array Slot} (k : Nat) (n : Nat) (x1 : Option Nat) (x2 : Int32) (M : zM), cells + k ≤ K → slots + n ≤ N → zS D M H locs → lv_has ls 3 [(0, .ref o), (1, va_rf x1), (2, .int x2)] → wp_X0_init_L22 D post o f k n x1 x2 M → W p l e (rm_X0_init K N) s m args below meth c H locs cells slots (vx_MQ below (zQ D zU post) (zX D (fun _ _ => False)) args s K N (zA D)) (F0 m 22 ls []) := by
  have hC := hG.1
  have hx := hC.x
  have hb := hC.b
  have hown := hC.o
  have hts := hC.ts
  have hlt := hG.2.2.2.2.2
  intro f
  induction f with
  | zero =>
    intro H locs cells slots ls k n x1 x2 M hk hn hZ hl hw
    exact absurd hw (fun h => h)
  | succ f ih =>
    intro H locs cells slots ls k n x1 x2 M hk hn hZ hl hw
    refine lv_iload_n hx hb dX0_init_22 rfl (lv_at hl 2 rfl) ?_
    refine lv_sipush (v := 210) hx hb dX0_init_23 (by decide) ?_
    refine lv_icmp_gt (tgt := 64) hx hb dX0_init_26 (by decide) (fun c120 => ?_) (fun c120 => ?_)
    · replace hw := hw.1 c120
      refine lv_iconst (v := 0) hx hb dX0_init_64 (by decide) ?_
      refine lv_istore_n (i := 2) (lv' := [(2, .int (0 : Int32)), (0, .ref o), (1, va_rf x1)]) hx hb dX0_init_65 rfl hl (by decide) (zfc rfl (zfk rfl (zfk (zfa rfl) (zfd rfl rfl)))) (fun ls hl1 => ?_)
      replace hl := hl1
      clear hl1
      obtain ⟨f1, hw⟩ := hw
      exact wk_X0_init_L66 hG f1 _ _ _ _ _ hk hn hZ (lv_sub hl [1, 2, 0] rfl) hw
    · replace hw := hw.2 c120
      refine z_aload_n hC dX0_init_29 rfl (lv_at hl 1 rfl) ?_
      refine lv_iconst (v := 2) hx hb dX0_init_30 (by decide) ?_
      refine lv_iload_n hx hb dX0_init_31 rfl (lv_at hl 2 rfl) ?_
      refine lv_imul hx hb dX0_init_32 ?_
      obtain ⟨hk1, hn1, hw⟩ := hw
      refine z_new (fs := [.int 0, .int 0, .long 0, .long 0, .int 0, .long 0]) hC hZ zc1 q128 q130 q68 (zdefs (N := 6) (ty := tyX1) (fs := [.int 0, .int 0, .long 0, .long 0, .int 0, .long 0]) (by decide)) (show cells + 1 ≤ K by omega) (show slots + 6 ≤ N by omega) dX0_init_33 (fun b111 H hq0 hq1 hZ => ?_)
      replace hw := hw b111 hq0 hq1
      generalize zu M _ _ = M at hw hZ
      have hk : cells + 1 + (k - 1) ≤ K := by omega
      have hn : slots + 6 + (n - 6) ≤ N := by omega
      generalize cells + 1 = cells at hk ⊢
      generalize slots + 6 = slots at hn ⊢
      clear hk1 hn1
      refine lv_dup hx hb dX0_init_36 rfl ?_
      refine lv_iload_n hx hb dX0_init_37 rfl (lv_at hl 2 rfl) ?_
      refine z_callU hZ (vx_runI (As := [.int x2]) (rest := [.ref b111, .int ((2 : Int32) * x2), va_rf x1]) hC.fix (w_X1_init hlt hw) (cwI 1 hts (lw_meth q133) rfl rfl rfl (hts _ q68) (hts _ q131) (hts _ q132) rfl dd_X1_init ⟨Nat.le_of_ble_eq_true rfl, Nat.le_of_ble_eq_true rfl⟩) (z_preS hC hZ) rfl rfl hl.1 rfl (lv_room (Nat.le_trans (zrm1 rfl (zrm1 rfl (zrm1 (zcat _) zrm0))) (Nat.le_of_ble_eq_true rfl))) dX0_init_38 ⟨(show cells + 0 ≤ K by omega), (show slots + 0 ≤ N by omega)⟩) (fun r112 M H locs hw1 hZ => ?_) (fun q M H locs ci fs E T9 N9 hw hZ hc1 hM1 hb1 => False.elim hw)
      replace hw := hw1
      clear hw1
      refine W.cs (cells' := cells) (slots' := slots) rfl rfl ?_
      obtain ⟨b115, hr0, hw⟩ := hw
      subst hr0
      obtain ⟨n0, f0, hM0, hb0, hi0, hv0, hw⟩ := hw
      refine z_aastO (r := (some b111)) hC hZ hM0 hb0 rfl hv0 hi0 dX0_init_41 (fun H locs hZ => ?_)
      generalize zu M _ _ = M at hw hZ
      refine lv_aload_n hx hb dX0_init_42 rfl (lv_at hl 1 rfl) ?_
      refine lv_iconst (v := 2) hx hb dX0_init_43 (by decide) ?_
      refine lv_iload_n hx hb dX0_init_44 rfl (lv_at hl 2 rfl) ?_
      refine lv_imul hx hb dX0_init_45 ?_
      refine lv_iconst (v := 1) hx hb dX0_init_46 (by decide) ?_
      refine lv_iadd hx hb dX0_init_47 ?_
      obtain ⟨hk1, hn1, hw⟩ := hw
      refine z_new (fs := [.int 0, .int 0, .long 0, .long 0, .int 0, .long 0]) hC hZ zc1 q128 q130 q68 (zdefs (N := 6) (ty := tyX1) (fs := [.int 0, .int 0, .long 0, .long 0, .int 0, .long 0]) (by decide)) (show cells + 1 ≤ K by omega) (show slots + 6 ≤ N by omega) dX0_init_48 (fun b116 H hq0 hq1 hZ => ?_)
      replace hw := hw b116 hq0 hq1
      generalize zu M _ _ = M at hw hZ
      have hk : cells + 1 + ((k - 1) - 1) ≤ K := by omega
      have hn : slots + 6 + ((n - 6) - 6) ≤ N := by omega
      generalize cells + 1 = cells at hk ⊢
      generalize slots + 6 = slots at hn ⊢
      clear hk1 hn1
      refine lv_dup hx hb dX0_init_51 rfl ?_
      refine lv_iload_n hx hb dX0_init_52 rfl (lv_at hl 2 rfl) ?_
      refine lv_iconst (v := 1) hx hb dX0_init_53 (by decide) ?_
      refine z_callU hZ (vx_runI (As := [.int x2, .int (1 : Int32)]) (rest := [.ref b116, .int (((2 : Int32) * x2) + (1 : Int32)), .ref b115]) hC.fix (w_X1_init_2 hlt hw) (cwI 2 hts (lw_meth q136) rfl rfl rfl (hts _ q68) (hts _ q176) (hts _ q135) rfl dd_X1_init_2 ⟨Nat.le_of_ble_eq_true rfl, Nat.le_of_ble_eq_true rfl⟩) (z_preS hC hZ) rfl rfl hl.1 rfl (lv_room (Nat.le_trans (zrm1 rfl (zrm1 rfl (zrm1 rfl zrm0))) (Nat.le_of_ble_eq_true rfl))) dX0_init_54 ⟨(show cells + 0 ≤ K by omega), (show slots + 0 ≤ N by omega)⟩) (fun r117 M H locs hw1 hZ => ?_) (fun q M H locs ci fs E T9 N9 hw hZ hc1 hM1 hb1 => False.elim hw)
      replace hw := hw1
      clear hw1
      refine W.cs (cells' := cells) (slots' := slots) rfl rfl ?_
      obtain ⟨n0, f0, hM0, hb0, hi0, hv0, hw⟩ := hw
      refine z_aastO (r := (some b116)) hC hZ hM0 hb0 rfl hv0 hi0 dX0_init_57 (fun H locs hZ => ?_)
      generalize zu M _ _ = M at hw hZ
      refine lv_iinc (v := (x2 + 1)) (lv' := [(2, .int (x2 + 1)), (0, .ref o), (1, .ref b115)]) hx hb dX0_init_58 hl (k := 2) rfl rfl (by decide) rfl (fun ls hl1 => ?_)
      replace hl := hl1
      clear hl1
      refine lv_goto (tgt := 22) hx hb dX0_init_61 (by decide) ?_
      exact ih _ _ _ _ _ hk hn hZ (lv_sub hl [1, 2, 0] rfl) hw
def wp_X0_init (D : zD) (post : Unit → zM → Prop) (k : Nat) (n : Nat) (o : Nat) (M : zM) : Prop :=
    (znewA D M 6 (7 : Int32) k n fun b121 M => (zp D M o 0 0 (.ref b121) fun M => (znewA D M 7 (422 : Int32) (k - 1) (n - (7 : Int32).toNatClampNeg) fun b122 M => (∃ f, wp_X0_init_L22 D post o f ((k - 1) - 1) ((n - (7 : Int32).toNatClampNeg) - (422 : Int32).toNatClampNeg) (some b122) (0 : Int32) M))))
set_option maxHeartbeats 4000000 in
set_option maxRecDepth 100000 in
theorem w_X0_init {l : Launch} {D : zD} {post : Unit → zM → Prop} (hlt : l.stackTraces = false) {k : Nat} {n : Nat} {o : Nat} {M : zM} (hw : wp_X0_init D post k n o M) : zMet l D yX0_init (ws_ yX0_init cX0_init 3 (none)) (rm_X0_init k n) k n [.ref o] M zU post (fun _ _ => False) := by
  unfold wp_X0_init at hw
  have hlv : lv_args 0 [.ref o] = [(0, .ref o)] := (zargs1 rfl rfl)
  refine z_ofW hlt (by decide) (Nat.le_trans (zsl1 rfl (Nat.le_refl 0 : (lg_sl []).length ≤ 0)) (Nat.le_of_ble_eq_true rfl)) hlv ?_
  intro p e s m args below meth c ls hG hZ hl
  have hC := hG.1
  have hx := hC.x
  have hb := hC.b
  have hown := hC.o
  have hts := hC.ts
  have hlt := hG.2.2.2.2.2
  obtain ⟨cells, hce⟩ : ∃ z : Nat, z = 0 := ⟨0, rfl⟩
  obtain ⟨slots, hsl⟩ : ∃ z : Nat, z = 0 := ⟨0, rfl⟩
  refine W.cs (cells' := cells) (slots' := slots) hce.symm hsl.symm ?_
  have hk : cells + k ≤ k := by omega
  have hn : slots + n ≤ n := by omega
  clear hce hsl
  refine lv_aload_n hx hb dX0_init_0 rfl (lv_at hl 0 rfl) ?_
  refine W.objInit hx hb hown (hts _ q123) (hts _ q124) (hts _ q125) rfl (by rw [hC.ml]; exact hl.1) rfl dX0_init_1 (Nat.le_of_ble_eq_true rfl) (Nat.le_of_ble_eq_true rfl) ?_
  refine W.eq (g2 := F0 m 4 ls []) rfl ?_
  refine lv_aload_n hx hb dX0_init_4 rfl (lv_at hl 0 rfl) ?_
  refine lv_bipush (v := 7) hx hb dX0_init_5 (by decide) ?_
  obtain ⟨hx1, hx2, hk1, hn1, hw⟩ := hw
  refine z_newq (k := 6) hC hZ q126 (by decide) rfl hx1 rfl (z_bytes hx2 (by decide)) (show cells + 1 ≤ k by omega) (show slots + (7 : Int32).toNatClampNeg ≤ n by omega) dX0_init_7 (fun b124 H hq0 hq1 hZ => ?_)
  replace hw := hw b124 hq0 hq1
  replace hZ : zS D (zu M b124 (some (.inl (6, zna 6 (7 : Int32).toNatClampNeg)))) _ _ := hZ
  refine W.cs (cells' := cells + 1) (slots' := slots + (7 : Int32).toNatClampNeg) rfl rfl ?_
  generalize zu M _ _ = M at hw hZ
  have hk : cells + 1 + (k - 1) ≤ k := by omega
  have hn : slots + (7 : Int32).toNatClampNeg + (n - (7 : Int32).toNatClampNeg) ≤ n := by omega
  generalize cells + 1 = cells at hk ⊢
  generalize slots + (7 : Int32).toNatClampNeg = slots at hn ⊢
  clear hk1 hn1 hx1 hx2
  obtain ⟨fs0, hM0, hb0, hk0, hw⟩ := hw
  refine z_putF hC hZ hM0 hb0 zc0 0 (by decide) q399 (fun _ h9 => h9) (by decide) hG.2.2.2.1 rfl rfl rfl hk0 dX0_init_10 (fun H locs hZ => ?_)
  generalize zu M _ _ = M at hw hZ
  refine lv_sipush (v := 422) hx hb dX0_init_13 (by decide) ?_
  obtain ⟨hx1, hx2, hk1, hn1, hw⟩ := hw
  refine z_newq (k := 7) hC hZ q128 (by decide) rfl hx1 rfl (z_bytes hx2 (by decide)) (show cells + 1 ≤ k by omega) (show slots + (422 : Int32).toNatClampNeg ≤ n by omega) dX0_init_16 (fun b125 H hq0 hq1 hZ => ?_)
  replace hw := hw b125 hq0 hq1
  replace hZ : zS D (zu M b125 (some (.inl (7, zna 7 (422 : Int32).toNatClampNeg)))) _ _ := hZ
  refine W.cs (cells' := cells + 1) (slots' := slots + (422 : Int32).toNatClampNeg) rfl rfl ?_
  generalize zu M _ _ = M at hw hZ
  have hk : cells + 1 + ((k - 1) - 1) ≤ k := by omega
  have hn : slots + (422 : Int32).toNatClampNeg + ((n - (7 : Int32).toNatClampNeg) - (422 : Int32).toNatClampNeg) ≤ n := by omega
  generalize cells + 1 = cells at hk ⊢
  generalize slots + (422 : Int32).toNatClampNeg = slots at hn ⊢
  clear hk1 hn1 hx1 hx2
  refine lv_astore_n (i := 1) (lv' := [(1, .ref b125), (0, .ref o)]) hx hb dX0_init_19 rfl hl (by decide) rfl (fun ls hl1 => ?_)
  replace hl := hl1
  clear hl1
  refine lv_iconst (v := 0) hx hb dX0_init_20 (by decide) ?_
  refine lv_istore_n (i := 2) (lv' := [(2, .int (0 : Int32)), (1, .ref b125), (0, .ref o)]) hx hb dX0_init_21 rfl hl (by decide) rfl (fun ls hl1 => ?_)
  replace hl := hl1
  clear hl1
  obtain ⟨f1, hw⟩ := hw
  exact wk_X0_init_L22 hG f1 _ _ _ _ _ hk hn hZ (lv_sub hl [2, 1, 0] rfl) hw
abbrev rm_X0_key : Room := { frames := 5, cells := 0, slots := 0, locals := 150 }
def wp_X0_key_L62 (D : zD) (post : Int32 → zM → Prop) (o : Nat) (y0 : Int32) (M : zM) : Prop :=
    post y0 M
set_option maxHeartbeats 4000000 in
set_option maxRecDepth 100000 in
theorem wk_X0_key_L62 {p : Program} {l : Launch} {e : Env} {s : State} {m : MethodId} {args : Array Value} {below : List Frame} {meth : Method} {c : Code} {D : zD} {post : Int32 → zM → Prop} {o : Nat} (hG : zGx p l s m args meth c cX0_key 5 "PluralBranches" D (some .int) "key" []) : ∀ {H : Heap} {locs : List Loc} {cells slots : Nat} {ls : Array Slot} (y0 : Int32) (M : zM), cells ≤ 0 → slots ≤ 0 → zS D M H locs → lv_has ls 5 [] → wp_X0_key_L62 D post o y0 M → W p l e rm_X0_key s m args below meth c H locs cells slots (vx_MQ below (zQ D zI post) (zX D (fun _ _ => False)) args s 0 0 (zA D)) (F0 m 62 ls [.int y0]) := by
  have hC := hG.1
  have hx := hC.x
  have hb := hC.b
  have hown := hC.o
  have hts := hC.ts
  have hlt := hG.2.2.2.2.2
  intro H locs cells slots ls y0 M hk hn hZ hl hw
  exact z_iret hG hZ hk hn hw dX0_key_62
def wp_X0_key_L42 (D : zD) (post : Int32 → zM → Prop) (o : Nat) (M : zM) : Prop :=
    wp_X0_key_L62 D post o (-2 : Int32) M
set_option maxHeartbeats 4000000 in
set_option maxRecDepth 100000 in
theorem wk_X0_key_L42 {p : Program} {l : Launch} {e : Env} {s : State} {m : MethodId} {args : Array Value} {below : List Frame} {meth : Method} {c : Code} {D : zD} {post : Int32 → zM → Prop} {o : Nat} (hG : zGx p l s m args meth c cX0_key 5 "PluralBranches" D (some .int) "key" []) : ∀ {H : Heap} {locs : List Loc} {cells slots : Nat} {ls : Array Slot} (M : zM), cells ≤ 0 → slots ≤ 0 → zS D M H locs → lv_has ls 5 [] → wp_X0_key_L42 D post o M → W p l e rm_X0_key s m args below meth c H locs cells slots (vx_MQ below (zQ D zI post) (zX D (fun _ _ => False)) args s 0 0 (zA D)) (F0 m 42 ls []) := by
  have hC := hG.1
  have hx := hC.x
  have hb := hC.b
  have hown := hC.o
  have hts := hC.ts
  have hlt := hG.2.2.2.2.2
  intro H locs cells slots ls M hk hn hZ hl hw
  refine lv_bipush (v := (-2)) hx hb dX0_key_42 (by decide) ?_
  refine lv_goto (tgt := 62) hx hb dX0_key_44 (by decide) ?_
  exact wk_X0_key_L62 hG _ _ hk hn hZ (lv_sub hl [] rfl) hw
def wp_X0_key (D : zD) (post : Int32 → zM → Prop) (o : Nat) (a0 : Int32) (a1 : Int32) (a2 : Int32) (M : zM) : Prop :=
    (wp_X0_isSlot D (fun r1 M => ((¬ r1 = 0 → ((zis M o [0] ∧ wp_X0_choiceOf D (fun r4 M => ((r4 = none → wp_X0_key_L42 D post o M) ∧ (∀ b7 : Nat, r4 = some b7 → (zgRm M b7 [(18, 0), (19, 0)] fun g8 => ((zd g8 fun b9 => (zis M b9 [26] ∧ wp_J3_size D (fun r10 M => (wp_X0_in D (fun r13 M => ((¬ r13 = 0 → (zgRm M b7 [(18, 0), (19, 0)] fun g16 => ((zd g16 fun b17 => (zis M b17 [26] ∧ wp_J3_get D (fun r18 M => ((∀ w, r18 = some w → zis M w [20]) ∧ ((zd r18 fun b21 => zgI M b21 20 0 fun g22 => wp_X0_key_L62 D post o g22 M)))) b17 a2 M))))) ∧ (r13 = 0 → wp_X0_key_L42 D post o M))) (a2.toInt64) (0 : Int64) ((r10 - (1 : Int32)).toInt64) M)) b9 M))))))) o a0 a1 M))) ∧ (r1 = 0 → post (-1 : Int32) M))) a0 M)
set_option maxHeartbeats 4000000 in
set_option maxRecDepth 100000 in
theorem w_X0_key {l : Launch} {D : zD} {post : Int32 → zM → Prop} (hlt : l.stackTraces = false) {o : Nat} {a0 : Int32} {a1 : Int32} {a2 : Int32} {M : zM} (hw : wp_X0_key D post o a0 a1 a2 M) : zMet l D yX0_key (ws_ yX0_key cX0_key 5 (some .int)) rm_X0_key 0 0 [.ref o, .int a0, .int a1, .int a2] M zI post (fun _ _ => False) := by
  unfold wp_X0_key at hw
  have hlv : lv_args 0 [.ref o, .int a0, .int a1, .int a2] = [(0, .ref o), (1, .int a0), (2, .int a1), (3, .int a2)] := (zargs1 rfl (zargs1 rfl (zargs1 rfl (zargs1 rfl rfl))))
  refine z_ofW hlt (by decide) (Nat.le_trans (zsl1 rfl (zsl1 rfl (zsl1 rfl (zsl1 rfl (Nat.le_refl 0 : (lg_sl []).length ≤ 0))))) (Nat.le_of_ble_eq_true rfl)) hlv ?_
  intro p e s m args below meth c ls hG hZ hl
  have hC := hG.1
  have hx := hC.x
  have hb := hC.b
  have hown := hC.o
  have hts := hC.ts
  have hlt := hG.2.2.2.2.2
  obtain ⟨cells, hce⟩ : ∃ z : Nat, z = 0 := ⟨0, rfl⟩
  obtain ⟨slots, hsl⟩ : ∃ z : Nat, z = 0 := ⟨0, rfl⟩
  refine W.cs (cells' := cells) (slots' := slots) hce.symm hsl.symm ?_
  have hk : cells ≤ 0 := Nat.le_of_eq hce
  have hn : slots ≤ 0 := Nat.le_of_eq hsl
  clear hce hsl
  refine lv_iload_n hx hb dX0_key_0 rfl (lv_at hl 1 rfl) ?_
  refine z_callI hZ (vx_runS (As := [.int a0]) (rest := []) hC.fix (w_X0_isSlot hlt hw) (va_cwS 1 hts (lw_S q528 q529 q67 q530) rfl rfl rfl dd_X0_isSlot ⟨Nat.le_of_ble_eq_true rfl, Nat.le_of_ble_eq_true rfl⟩) (z_preS hC hZ) rfl rfl hl.1 rfl (lv_room (Nat.zero_le _)) dX0_key_1 ⟨hk, hn⟩) (fun r25 M H locs hw1 hZ => ?_) (fun q M H locs ci fs E T9 N9 hw hZ hc1 hM1 hb1 => False.elim hw)
  replace hw := hw1
  clear hw1
  refine W.cs (cells' := cells) (slots' := slots) rfl rfl ?_
  refine lv_if_ne (tgt := 9) hx hb dX0_key_4 (by decide) (fun c48 => ?_) (fun c48 => ?_)
  · replace hw := hw.1 c48
    refine lv_aload_n hx hb dX0_key_9 rfl (lv_at hl 0 rfl) ?_
    refine lv_iload_n hx hb dX0_key_10 rfl (lv_at hl 1 rfl) ?_
    refine lv_iload_n hx hb dX0_key_11 rfl (lv_at hl 2 rfl) ?_
    obtain ⟨⟨ci0, fs0, hci0, hM0⟩, hw⟩ := hw
    obtain rfl : ci0 = 0 := List.mem_singleton.mp hci0
    refine z_callR hZ (vx_runV (As := [.int a0, .int a1]) (rest := []) hC.fix (w_X0_choiceOf hlt hw) (cwV 2 hts (lw_V q1092 q1094 qs22 q67 q1095) rfl rfl rfl ⟨rfl, dd_X0_choiceOf⟩ ⟨Nat.le_of_ble_eq_true rfl, Nat.le_of_ble_eq_true rfl⟩) (z_preV hC hZ hM0 zc0) rfl rfl hl.1 rfl (lv_room (Nat.zero_le _)) dX0_key_12 ⟨hk, hn⟩) (fun r28 M H locs hw1 hZ => ?_) (fun q M H locs ci fs E T9 N9 hw hZ hc1 hM1 hb1 => False.elim hw)
    replace hw := hw1
    clear hw1
    refine W.cs (cells' := cells) (slots' := slots) rfl rfl ?_
    refine z_astore (i := 4) (lv' := [(4, va_rf r28), (0, .ref o), (1, .int a0), (2, .int a1), (3, .int a2)]) hC dX0_key_15 hl (by decide) rfl (fun ls hl1 => ?_)
    replace hl := hl1
    clear hl1
    refine z_aload hC dX0_key_17 (lv_at hl 0 rfl) ?_
    refine z_ifnull (tgt := 42) hC dX0_key_19 (by decide) (fun hr0 => ?_) (fun b31 hr0 => ?_)
    · replace hw := hw.1 hr0
      exact wk_X0_key_L42 hG _ hk hn hZ (lv_sub hl [] rfl) hw
    · replace hw := hw.2 b31 hr0
      subst hr0
      refine lv_iload_n hx hb dX0_key_22 rfl (lv_at hl 4 rfl) ?_
      refine lv_i2l hx hb dX0_key_23 rfl ?_
      refine lv_lconst (v := 0) hx hb dX0_key_24 (by decide) ?_
      refine lv_aload hx hb dX0_key_25 (lv_at hl 0 rfl) ?_
      obtain ⟨q0, fs0, g32, hL0, hM0, hx0, hw⟩ := hw
      refine z_getm hC hZ hM0 (L := [(18, 0), (19, 0)]) (ref := "PluralBranches$Choice") (index := 197) (zal (⟨_, _, _, _, zc18, by decide, q827, (fun _ h9 => h9)⟩) (zal (⟨_, _, _, _, zc19, by decide, q827, (fun _ h9 => h9)⟩) (za0))) hL0 hx0 dX0_key_27 ?_
      obtain ⟨b33, hr0, hw⟩ := hw
      subst hr0
      obtain ⟨⟨ci0, fs0, hci0, hM0⟩, hw⟩ := hw
      obtain rfl : ci0 = 26 := List.mem_singleton.mp hci0
      refine z_callI hZ (vx_runV (As := []) (rest := [.long (0 : Int64), .long (a2.toInt64)]) hC.fix (w_J3_size hlt hw) (cwV 0 hts (lw_V q505 q464 q465 q74 q466) rfl rfl rfl ⟨rfl, dd_J3_size⟩ ⟨Nat.le_of_ble_eq_true rfl, Nat.le_of_ble_eq_true rfl⟩) (z_preV hC hZ hM0 zc26) rfl rfl hl.1 rfl (lv_room (Nat.le_trans (zrm2 rfl (zrm2 rfl zrm0)) (Nat.le_of_ble_eq_true rfl))) dX0_key_30 ⟨hk, hn⟩) (fun r34 M H locs hw1 hZ => ?_) (fun q M H locs ci fs E T9 N9 hw hZ hc1 hM1 hb1 => False.elim hw)
      replace hw := hw1
      clear hw1
      refine W.cs (cells' := cells) (slots' := slots) rfl rfl ?_
      refine lv_iconst (v := 1) hx hb dX0_key_33 (by decide) ?_
      refine lv_isub hx hb dX0_key_34 ?_
      refine lv_i2l hx hb dX0_key_35 rfl ?_
      refine z_callI hZ (vx_runS (As := [.long (a2.toInt64), .long (0 : Int64), .long ((r34 - (1 : Int32)).toInt64)]) (rest := []) hC.fix (w_X0_in hlt hw) (va_cwS 3 hts (lw_S q434 q435 q67 q436) rfl rfl rfl dd_X0_in ⟨Nat.le_of_ble_eq_true rfl, Nat.le_of_ble_eq_true rfl⟩) (z_preS hC hZ) rfl rfl hl.1 rfl (lv_room (Nat.zero_le _)) dX0_key_36 ⟨hk, hn⟩) (fun r37 M H locs hw1 hZ => ?_) (fun q M H locs ci fs E T9 N9 hw hZ hc1 hM1 hb1 => False.elim hw)
      replace hw := hw1
      clear hw1
      refine W.cs (cells' := cells) (slots' := slots) rfl rfl ?_
      refine lv_if_ne (tgt := 47) hx hb dX0_key_39 (by decide) (fun c47 => ?_) (fun c47 => ?_)
      · replace hw := hw.1 c47
        refine lv_aload hx hb dX0_key_47 (lv_at hl 0 rfl) ?_
        obtain ⟨q0, fs0, g40, hL0, hM0, hx0, hw⟩ := hw
        refine z_getm hC hZ hM0 (L := [(18, 0), (19, 0)]) (ref := "PluralBranches$Choice") (index := 197) (zal (⟨_, _, _, _, zc18, by decide, q827, (fun _ h9 => h9)⟩) (zal (⟨_, _, _, _, zc19, by decide, q827, (fun _ h9 => h9)⟩) (za0))) hL0 hx0 dX0_key_49 ?_
        refine lv_iload_n hx hb dX0_key_52 rfl (lv_at hl 4 rfl) ?_
        obtain ⟨b41, hr0, hw⟩ := hw
        subst hr0
        obtain ⟨⟨ci0, fs0, hci0, hM0⟩, hw⟩ := hw
        obtain rfl : ci0 = 26 := List.mem_singleton.mp hci0
        refine z_callR hZ (vx_runV (As := [.int a2]) (rest := []) hC.fix (w_J3_get hlt hw) (cwV 1 hts (lw_V q1096 q468 q469 q74 q470) rfl rfl rfl ⟨rfl, dd_J3_get⟩ ⟨Nat.le_of_ble_eq_true rfl, Nat.le_of_ble_eq_true rfl⟩) (z_preV hC hZ hM0 zc26) rfl rfl hl.1 rfl (lv_room (Nat.zero_le _)) dX0_key_53 ⟨hk, hn⟩) (fun r42 M H locs hw1 hZ => ?_) (fun q M H locs ci fs E T9 N9 hw hZ hc1 hM1 hb1 => False.elim hw)
        replace hw := hw1
        clear hw1
        refine W.cs (cells' := cells) (slots' := slots) rfl rfl ?_
        obtain ⟨hc0, hw⟩ := hw
        refine z_castO (r := r42) hC hZ hc0 (zal ⟨_, _, _, _, zc20, (Or.inl rfl)⟩ (za0)) q1103 dX0_key_56 ?_
        obtain ⟨b45, hr0, hw⟩ := hw
        subst hr0
        obtain ⟨fs0, g46, hM0, hx0, hw⟩ := hw
        refine z_getN hC hZ hM0 zc20 0 (by decide) q972 (fun _ h9 => h9) hx0 dX0_key_59 ?_
        exact wk_X0_key_L62 hG _ _ hk hn hZ (lv_sub hl [] rfl) hw
      · replace hw := hw.2 c47
        exact wk_X0_key_L42 hG _ hk hn hZ (lv_sub hl [] rfl) hw
  · replace hw := hw.2 c48
    refine lv_iconst (v := (-1)) hx hb dX0_key_7 (by decide) ?_
    exact z_iret hG hZ hk hn hw dX0_key_8
abbrev rm_X2_used : Room := { frames := 6, cells := 0, slots := 0, locals := 176 }
def wp_X2_used_L13 (D : zD) (post : Int32 → zM → Prop) (o : Nat) : Nat → Int32 → Option Nat → Int32 → Int32 → zM → Prop
  | 0 => fun _ _ _ _ _ => False
  | f + 1 => fun x1 x2 x3 x4 M =>
    ((x3 ≤ x4 → post x1 M) ∧ (¬ x3 ≤ x4 → ((zd x2 fun b1 => zaR M b1 7 x4 fun v2 => ((zis M o [2, 4, 5, 6] ∧ wp_X2_category D (fun r3 M => wp_X2_used_L13 D post o f (x1 ||| ((1 : Int32) <<< (r3 &&& 31))) (some b1) x3 (x4 + 1) M) o v2 M))))))
set_option maxHeartbeats 4000000 in
set_option maxRecDepth 100000 in
theorem wk_X2_used_L13 {p : Program} {l : Launch} {e : Env} {s : State} {m : MethodId} {args : Array Value} {below : List Frame} {meth : Method} {c : Code} {D : zD} {post : Int32 → zM → Prop} {o : Nat} (hG : zGx p l s m args meth c cX2_used 6 "PluralBranches$Language" D (some .int) "used" []) : ∀ (f : Nat), ∀ {H : Heap} {locs : List Loc} {cells slots : Nat} {ls : Array Slot} (x1 : Int32) (x2 : Option Nat) (x3 : Int32) (x4 : Int32) (M : zM), cells ≤ 0 → slots ≤ 0 → zS D M H locs → lv_has ls 6 [(0, .ref o), (1, .int x1), (2, va_rf x2), (3, .int x3), (4, .int x4)] → wp_X2_used_L13 D post o f x1 x2 x3 x4 M → W p l e rm_X2_used s m args below meth c H locs cells slots (vx_MQ below (zQ D zI post) (zX D (fun _ _ => False)) args s 0 0 (zA D)) (F0 m 13 ls []) := by
  have hC := hG.1
  have hx := hC.x
  have hb := hC.b
  have hown := hC.o
  have hts := hC.ts
  have hlt := hG.2.2.2.2.2
  intro f
  induction f with
  | zero =>
    intro H locs cells slots ls x1 x2 x3 x4 M hk hn hZ hl hw
    exact absurd hw (fun h => h)
  | succ f ih =>
    intro H locs cells slots ls x1 x2 x3 x4 M hk hn hZ hl hw
    refine lv_iload hx hb dX2_used_13 (lv_at hl 4 rfl) ?_
    refine lv_iload_n hx hb dX2_used_15 rfl (lv_at hl 3 rfl) ?_
    refine lv_icmp_ge (tgt := 42) hx hb dX2_used_16 (by decide) (fun c12 => ?_) (fun c12 => ?_)
    · replace hw := hw.1 c12
      refine lv_iload_n hx hb dX2_used_42 rfl (lv_at hl 1 rfl) ?_
      exact z_iret hG hZ hk hn hw dX2_used_43
    · replace hw := hw.2 c12
      refine z_aload_n hC dX2_used_19 rfl (lv_at hl 2 rfl) ?_
      refine lv_iload hx hb dX2_used_20 (lv_at hl 4 rfl) ?_
      obtain ⟨b7, hr0, hw⟩ := hw
      subst hr0
      obtain ⟨n0, f0, v8, hM0, hi0, hr0, hw⟩ := hw
      refine z_aald hC hZ hM0 (by decide) rfl hi0 hr0 dX2_used_22 ?_
      refine z_astore (i := 5) (lv' := [(5, va_rf v8), (0, .ref o), (1, .int x1), (2, .ref b7), (3, .int x3), (4, .int x4)]) hC dX2_used_23 hl (by decide) rfl (fun ls hl1 => ?_)
      replace hl := hl1
      clear hl1
      refine lv_iload_n hx hb dX2_used_25 rfl (lv_at hl 2 rfl) ?_
      refine lv_iconst (v := 1) hx hb dX2_used_26 (by decide) ?_
      refine lv_aload_n hx hb dX2_used_27 rfl (lv_at hl 1 rfl) ?_
      refine z_aload hC dX2_used_28 (lv_at hl 0 rfl) ?_
      obtain ⟨⟨ci0, fs0, hci0, hM0⟩, hw⟩ := hw
      obtain ⟨C0, T0, N0, ty0, hc0, hsel0⟩ : ∃ (C0 : String) (T0 : u_T) (N0 : Nat) (ty0 : Nat → FieldType), zCls ci0 C0 T0 N0 ty0 ∧ Cond.selects C0 ⟨"PluralBranches$Language", "category", "(LPluralBranches$Decimal;)I"⟩ yX2_category ∈ lw_all := (zal ⟨_, _, _, _, zc2, q455⟩ (zal ⟨_, _, _, _, zc4, q454⟩ (zal ⟨_, _, _, _, zc5, q453⟩ (zal ⟨_, _, _, _, zc6, q456⟩ (za0)))) : ∀ ci ∈ [2, 4, 5, 6], ∃ (C0 : String) (T0 : u_T) (N0 : Nat) (ty0 : Nat → FieldType), zCls ci C0 T0 N0 ty0 ∧ Cond.selects C0 ⟨"PluralBranches$Language", "category", "(LPluralBranches$Decimal;)I"⟩ yX2_category ∈ lw_all) ci0 hci0
      refine z_callI hZ (vx_runU (As := [va_rf v8]) (rest := [.int (1 : Int32), .int x1]) hC.fix (w_X2_category hlt hw) (va_cwU (owner := "PluralBranches$Language") (x := ⟨"PluralBranches$Language", "category", "(LPluralBranches$Decimal;)I"⟩) 1 hts (lw_app (zal q499 (zal q452 (zal hsel0 (zal q451 (zal q70 za0))))) (lw_meth q457)) rfl rfl rfl rfl (by decide +kernel) ⟨Nat.le_of_ble_eq_true rfl, Nat.le_of_ble_eq_true rfl⟩) (z_preV hC hZ hM0 hc0) rfl rfl hl.1 rfl (lv_room (Nat.le_trans (zrm1 rfl (zrm1 rfl zrm0)) (Nat.le_of_ble_eq_true rfl))) dX2_used_30 ⟨hk, hn⟩) (fun r9 M H locs hw1 hZ => ?_) (fun q M H locs ci fs E T9 N9 hw hZ hc1 hM1 hb1 => False.elim hw)
      replace hw := hw1
      clear hw1
      refine W.cs (cells' := cells) (slots' := slots) rfl rfl ?_
      refine lv_ishl hx hb dX2_used_33 ?_
      refine lv_ior hx hb dX2_used_34 ?_
      refine lv_istore_n (i := 1) (lv' := [(1, .int (x1 ||| ((1 : Int32) <<< (r9 &&& 31)))), (5, va_rf v8), (0, .ref o), (2, .ref b7), (3, .int x3), (4, .int x4)]) hx hb dX2_used_35 rfl hl (by decide) rfl (fun ls hl1 => ?_)
      replace hl := hl1
      clear hl1
      refine lv_iinc (v := (x4 + 1)) (lv' := [(4, .int (x4 + 1)), (1, .int (x1 ||| ((1 : Int32) <<< (r9 &&& 31)))), (5, va_rf v8), (0, .ref o), (2, .ref b7), (3, .int x3)]) hx hb dX2_used_36 hl (k := 5) rfl rfl (by decide) rfl (fun ls hl1 => ?_)
      replace hl := hl1
      clear hl1
      refine lv_goto (tgt := 13) hx hb dX2_used_39 (by decide) ?_
      exact ih _ _ _ _ _ hk hn hZ (lv_sub hl [3, 1, 4, 5, 0] rfl) hw
def wp_X2_used (D : zD) (post : Int32 → zM → Prop) (o : Nat) (M : zM) : Prop :=
    (zgRm M o [(2, 1), (4, 1), (5, 1), (6, 1)] fun g13 => ((zd g13 fun b14 => zlen M b14 fun n15 => (∃ f, wp_X2_used_L13 D post o f (0 : Int32) (some b14) n15 (0 : Int32) M))))
set_option maxHeartbeats 4000000 in
set_option maxRecDepth 100000 in
theorem w_X2_used {l : Launch} {D : zD} {post : Int32 → zM → Prop} (hlt : l.stackTraces = false) {o : Nat} {M : zM} (hw : wp_X2_used D post o M) : zMet l D yX2_used (ws_ yX2_used cX2_used 6 (some .int)) rm_X2_used 0 0 [.ref o] M zI post (fun _ _ => False) := by
  unfold wp_X2_used at hw
  have hlv : lv_args 0 [.ref o] = [(0, .ref o)] := (zargs1 rfl rfl)
  refine z_ofW hlt (by decide) (Nat.le_trans (zsl1 rfl (Nat.le_refl 0 : (lg_sl []).length ≤ 0)) (Nat.le_of_ble_eq_true rfl)) hlv ?_
  intro p e s m args below meth c ls hG hZ hl
  have hC := hG.1
  have hx := hC.x
  have hb := hC.b
  have hown := hC.o
  have hts := hC.ts
  have hlt := hG.2.2.2.2.2
  obtain ⟨cells, hce⟩ : ∃ z : Nat, z = 0 := ⟨0, rfl⟩
  obtain ⟨slots, hsl⟩ : ∃ z : Nat, z = 0 := ⟨0, rfl⟩
  refine W.cs (cells' := cells) (slots' := slots) hce.symm hsl.symm ?_
  have hk : cells ≤ 0 := Nat.le_of_eq hce
  have hn : slots ≤ 0 := Nat.le_of_eq hsl
  clear hce hsl
  refine lv_iconst (v := 0) hx hb dX2_used_0 (by decide) ?_
  refine lv_istore_n (i := 1) (lv' := [(1, .int (0 : Int32)), (0, .ref o)]) hx hb dX2_used_1 rfl hl (by decide) rfl (fun ls hl1 => ?_)
  replace hl := hl1
  clear hl1
  refine lv_aload_n hx hb dX2_used_2 rfl (lv_at hl 1 rfl) ?_
  obtain ⟨q0, fs0, g16, hL0, hM0, hx0, hw⟩ := hw
  refine z_getm hC hZ hM0 (L := [(2, 1), (4, 1), (5, 1), (6, 1)]) (ref := "PluralBranches$Language") (index := 53) (zal (⟨_, _, _, _, zc2, by decide, q291, (fun _ h9 => h9)⟩) (zal (⟨_, _, _, _, zc4, by decide, q291, (fun _ h9 => h9)⟩) (zal (⟨_, _, _, _, zc5, by decide, q291, (fun _ h9 => h9)⟩) (zal (⟨_, _, _, _, zc6, by decide, q291, (fun _ h9 => h9)⟩) (za0))))) hL0 hx0 dX2_used_3 ?_
  refine z_astore_n (i := 2) (lv' := [(2, va_rf g16), (1, .int (0 : Int32)), (0, .ref o)]) hC dX2_used_6 rfl hl (by decide) rfl (fun ls hl1 => ?_)
  replace hl := hl1
  clear hl1
  refine z_aload_n hC dX2_used_7 rfl (lv_at hl 0 rfl) ?_
  obtain ⟨b17, hr0, hw⟩ := hw
  subst hr0
  obtain ⟨y0, hM0, hy0, hw⟩ := hw
  refine z_alen hC hZ hM0 hy0 dX2_used_8 ?_
  generalize Int32.ofNat y0.2.1 = n18 at hw ⊢
  refine lv_istore_n (i := 3) (lv' := [(3, .int n18), (2, .ref b17), (1, .int (0 : Int32)), (0, .ref o)]) hx hb dX2_used_9 rfl hl (by decide) rfl (fun ls hl1 => ?_)
  replace hl := hl1
  clear hl1
  refine lv_iconst (v := 0) hx hb dX2_used_10 (by decide) ?_
  refine lv_istore (i := 4) (lv' := [(4, .int (0 : Int32)), (3, .int n18), (2, .ref b17), (1, .int (0 : Int32)), (0, .ref o)]) hx hb dX2_used_11 hl (by decide) rfl (fun ls hl1 => ?_)
  replace hl := hl1
  clear hl1
  obtain ⟨f1, hw⟩ := hw
  exact wk_X2_used_L13 hG f1 _ _ _ _ _ hk hn hZ (lv_sub hl [4, 3, 2, 1, 0] rfl) hw
abbrev rm_X21_wanted : Room := { frames := 7, cells := 0, slots := 0, locals := 201 }
def wp_X21_wanted (D : zD) (post : Int32 → zM → Prop) (o : Nat) (a0 : Option Nat) (M : zM) : Prop :=
    ((zd a0 fun b1 => (zis M b1 [2, 4, 5, 6] ∧ wp_X2_used D (fun r2 M => post (r2 &&& (31 : Int32)) M) b1 M)))
set_option maxHeartbeats 4000000 in
set_option maxRecDepth 100000 in
theorem w_X21_wanted {l : Launch} {D : zD} {post : Int32 → zM → Prop} (hlt : l.stackTraces = false) {o : Nat} {a0 : Option Nat} {M : zM} (hw : wp_X21_wanted D post o a0 M) : zMet l D yX21_wanted (ws_ yX21_wanted cX21_wanted 2 (some .int)) rm_X21_wanted 0 0 [.ref o, va_rf a0] M zI post (fun _ _ => False) := by
  unfold wp_X21_wanted at hw
  have hlv : lv_args 0 [.ref o, va_rf a0] = [(0, .ref o), (1, va_rf a0)] := (zargs1 rfl (zargs1 (zcat _) rfl))
  refine z_ofW hlt (by decide) (Nat.le_trans (zsl1 rfl (zsl1 (zcat _) (Nat.le_refl 0 : (lg_sl []).length ≤ 0))) (Nat.le_of_ble_eq_true rfl)) hlv ?_
  intro p e s m args below meth c ls hG hZ hl
  have hC := hG.1
  have hx := hC.x
  have hb := hC.b
  have hown := hC.o
  have hts := hC.ts
  have hlt := hG.2.2.2.2.2
  obtain ⟨cells, hce⟩ : ∃ z : Nat, z = 0 := ⟨0, rfl⟩
  obtain ⟨slots, hsl⟩ : ∃ z : Nat, z = 0 := ⟨0, rfl⟩
  refine W.cs (cells' := cells) (slots' := slots) hce.symm hsl.symm ?_
  have hk : cells ≤ 0 := Nat.le_of_eq hce
  have hn : slots ≤ 0 := Nat.le_of_eq hsl
  clear hce hsl
  refine z_aload_n hC dX21_wanted_0 rfl (lv_at hl 1 rfl) ?_
  obtain ⟨b5, hr0, hw⟩ := hw
  subst hr0
  obtain ⟨⟨ci0, fs0, hci0, hM0⟩, hw⟩ := hw
  obtain ⟨C0, T0, N0, ty0, hc0, hsel0⟩ : ∃ (C0 : String) (T0 : u_T) (N0 : Nat) (ty0 : Nat → FieldType), zCls ci0 C0 T0 N0 ty0 ∧ Cond.selects C0 ⟨"PluralBranches$Language", "used", "()I"⟩ yX2_used ∈ lw_all := (zal ⟨_, _, _, _, zc2, q496⟩ (zal ⟨_, _, _, _, zc4, q495⟩ (zal ⟨_, _, _, _, zc5, q494⟩ (zal ⟨_, _, _, _, zc6, q497⟩ (za0)))) : ∀ ci ∈ [2, 4, 5, 6], ∃ (C0 : String) (T0 : u_T) (N0 : Nat) (ty0 : Nat → FieldType), zCls ci C0 T0 N0 ty0 ∧ Cond.selects C0 ⟨"PluralBranches$Language", "used", "()I"⟩ yX2_used ∈ lw_all) ci0 hci0
  refine z_callI hZ (vx_runU (As := []) (rest := []) hC.fix (w_X2_used hlt hw) (va_cwU (owner := "PluralBranches$Language") (x := ⟨"PluralBranches$Language", "used", "()I"⟩) 0 hts (lw_app (zal q1123 (zal q493 (zal hsel0 (zal q492 (zal q70 za0))))) (lw_meth q498)) rfl rfl rfl rfl (by decide +kernel) ⟨Nat.le_of_ble_eq_true rfl, Nat.le_of_ble_eq_true rfl⟩) (z_preV hC hZ hM0 hc0) rfl rfl hl.1 rfl (lv_room (Nat.zero_le _)) dX21_wanted_1 ⟨hk, hn⟩) (fun r6 M H locs hw1 hZ => ?_) (fun q M H locs ci fs E T9 N9 hw hZ hc1 hM1 hb1 => False.elim hw)
  replace hw := hw1
  clear hw1
  refine W.cs (cells' := cells) (slots' := slots) rfl rfl ?_
  refine lv_bipush (v := 31) hx hb dX21_wanted_4 (by decide) ?_
  refine lv_iand hx hb dX21_wanted_6 ?_
  exact z_iret hG hZ hk hn hw dX21_wanted_7
abbrev rm_X22_wanted : Room := { frames := 1, cells := 0, slots := 0, locals := 64 }
def wp_X22_wanted (D : zD) (post : Int32 → zM → Prop) (o : Nat) (a0 : Option Nat) (M : zM) : Prop :=
    post (7 : Int32) M
set_option maxHeartbeats 4000000 in
set_option maxRecDepth 100000 in
theorem w_X22_wanted {l : Launch} {D : zD} {post : Int32 → zM → Prop} (hlt : l.stackTraces = false) {o : Nat} {a0 : Option Nat} {M : zM} (hw : wp_X22_wanted D post o a0 M) : zMet l D yX22_wanted (ws_ yX22_wanted cX22_wanted 2 (some .int)) rm_X22_wanted 0 0 [.ref o, va_rf a0] M zI post (fun _ _ => False) := by
  unfold wp_X22_wanted at hw
  have hlv : lv_args 0 [.ref o, va_rf a0] = [(0, .ref o), (1, va_rf a0)] := (zargs1 rfl (zargs1 (zcat _) rfl))
  refine z_ofW hlt (by decide) (Nat.le_trans (zsl1 rfl (zsl1 (zcat _) (Nat.le_refl 0 : (lg_sl []).length ≤ 0))) (Nat.le_of_ble_eq_true rfl)) hlv ?_
  intro p e s m args below meth c ls hG hZ hl
  have hC := hG.1
  have hx := hC.x
  have hb := hC.b
  have hown := hC.o
  have hts := hC.ts
  have hlt := hG.2.2.2.2.2
  obtain ⟨cells, hce⟩ : ∃ z : Nat, z = 0 := ⟨0, rfl⟩
  obtain ⟨slots, hsl⟩ : ∃ z : Nat, z = 0 := ⟨0, rfl⟩
  refine W.cs (cells' := cells) (slots' := slots) hce.symm hsl.symm ?_
  have hk : cells ≤ 0 := Nat.le_of_eq hce
  have hn : slots ≤ 0 := Nat.le_of_eq hsl
  clear hce hsl
  refine lv_bipush (v := 7) hx hb dX22_wanted_0 (by decide) ?_
  exact z_iret hG hZ hk hn hw dX22_wanted_2
abbrev rm_X20_lacks (K N : Nat) : Room := { frames := 8, cells := K, slots := N, locals := 222 }
def wp_X20_lacks_L60 (D : zD) (post : Int32 → zM → Prop) (o : Nat) (k14 : Nat → Nat → Int32 → Option Nat → zM → Prop) (k : Nat) (n : Nat) (x3 : Option Nat) (y0 : Int32) (y1 : Int32) (M : zM) : Prop :=
    k14 k n (y0 &&& y1) x3 M
set_option maxHeartbeats 4000000 in
set_option maxRecDepth 100000 in
theorem wk_X20_lacks_L60 {p : Program} {l : Launch} {e : Env} {s : State} {m : MethodId} {args : Array Value} {below : List Frame} {meth : Method} {c : Code} {D : zD} {post : Int32 → zM → Prop} {K N : Nat} {o : Nat} (hG : zGx p l s m args meth c cX20_lacks 5 "PluralBranches$Choice" D (some .int) "lacks" []) (k14 : Nat → Nat → Int32 → Option Nat → zM → Prop) (hk14 : ∀ {H : Heap} {locs : List Loc} {cells slots : Nat} {ls : Array Slot} (k : Nat) (n : Nat) (x2 : Int32) (x3 : Option Nat) (M : zM), cells + k ≤ K → slots + n ≤ N → zS D M H locs → lv_has ls 5 [(0, .ref o), (2, .int x2), (3, va_rf x3)] → k14 k n x2 x3 M → W p l e (rm_X20_lacks K N) s m args below meth c H locs cells slots (vx_MQ below (zQ D zI post) (zX D (fun _ _ => False)) args s K N (zA D)) (F0 m 14 ls [])) : ∀ {H : Heap} {locs : List Loc} {cells slots : Nat} {ls : Array Slot} (k : Nat) (n : Nat) (x3 : Option Nat) (y0 : Int32) (y1 : Int32) (M : zM), cells + k ≤ K → slots + n ≤ N → zS D M H locs → lv_has ls 5 [(0, .ref o), (3, va_rf x3)] → wp_X20_lacks_L60 D post o k14 k n x3 y0 y1 M → W p l e (rm_X20_lacks K N) s m args below meth c H locs cells slots (vx_MQ below (zQ D zI post) (zX D (fun _ _ => False)) args s K N (zA D)) (F0 m 60 ls [.int y1, .int y0]) := by
  have hC := hG.1
  have hx := hC.x
  have hb := hC.b
  have hown := hC.o
  have hts := hC.ts
  have hlt := hG.2.2.2.2.2
  intro H locs cells slots ls k n x3 y0 y1 M hk hn hZ hl hw
  refine lv_iand hx hb dX20_lacks_60 ?_
  refine lv_istore_n (i := 2) (lv' := [(2, .int (y0 &&& y1)), (0, .ref o), (3, va_rf x3)]) hx hb dX20_lacks_61 rfl hl (by decide) rfl (fun ls hl1 => ?_)
  replace hl := hl1
  clear hl1
  refine lv_goto (tgt := 14) hx hb dX20_lacks_62 (by decide) ?_
  exact hk14 _ _ _ _ _ hk hn hZ (lv_sub hl [1, 0, 2] rfl) hw
def wp_X20_lacks_L44 (D : zD) (post : Int32 → zM → Prop) (o : Nat) (k14 : Nat → Nat → Int32 → Option Nat → zM → Prop) (k : Nat) (n : Nat) (x2 : Int32) (x3 : Option Nat) (x4 : Option Nat) (y0 : Int32) (y1 : Int32) (y2 : Int32) (M : zM) : Prop :=
    ((y2 ≤ y1 → wp_X20_lacks_L60 D post o k14 k n x3 y0 x2 M) ∧ (¬ y2 ≤ y1 → ((zd x4 fun b1 => zgI M b1 20 0 fun g2 => wp_X20_lacks_L60 D post o k14 k n x3 y0 (((1 : Int32) <<< (g2 &&& 31)) ^^^ (-1 : Int32)) M))))
set_option maxHeartbeats 4000000 in
set_option maxRecDepth 100000 in
theorem wk_X20_lacks_L44 {p : Program} {l : Launch} {e : Env} {s : State} {m : MethodId} {args : Array Value} {below : List Frame} {meth : Method} {c : Code} {D : zD} {post : Int32 → zM → Prop} {K N : Nat} {o : Nat} (hG : zGx p l s m args meth c cX20_lacks 5 "PluralBranches$Choice" D (some .int) "lacks" []) (k14 : Nat → Nat → Int32 → Option Nat → zM → Prop) (hk14 : ∀ {H : Heap} {locs : List Loc} {cells slots : Nat} {ls : Array Slot} (k : Nat) (n : Nat) (x2 : Int32) (x3 : Option Nat) (M : zM), cells + k ≤ K → slots + n ≤ N → zS D M H locs → lv_has ls 5 [(0, .ref o), (2, .int x2), (3, va_rf x3)] → k14 k n x2 x3 M → W p l e (rm_X20_lacks K N) s m args below meth c H locs cells slots (vx_MQ below (zQ D zI post) (zX D (fun _ _ => False)) args s K N (zA D)) (F0 m 14 ls [])) : ∀ {H : Heap} {locs : List Loc} {cells slots : Nat} {ls : Array Slot} (k : Nat) (n : Nat) (x2 : Int32) (x3 : Option Nat) (x4 : Option Nat) (y0 : Int32) (y1 : Int32) (y2 : Int32) (M : zM), cells + k ≤ K → slots + n ≤ N → zS D M H locs → lv_has ls 5 [(0, .ref o), (2, .int x2), (3, va_rf x3), (4, va_rf x4)] → wp_X20_lacks_L44 D post o k14 k n x2 x3 x4 y0 y1 y2 M → W p l e (rm_X20_lacks K N) s m args below meth c H locs cells slots (vx_MQ below (zQ D zI post) (zX D (fun _ _ => False)) args s K N (zA D)) (F0 m 44 ls [.int y2, .int y1, .int y0]) := by
  have hC := hG.1
  have hx := hC.x
  have hb := hC.b
  have hown := hC.o
  have hts := hC.ts
  have hlt := hG.2.2.2.2.2
  intro H locs cells slots ls k n x2 x3 x4 y0 y1 y2 M hk hn hZ hl hw
  refine lv_icmp_ge (tgt := 59) hx hb dX20_lacks_44 (by decide) (fun c6 => ?_) (fun c6 => ?_)
  · replace hw := hw.1 c6
    refine lv_iload_n hx hb dX20_lacks_59 rfl (lv_at hl 1 rfl) ?_
    exact wk_X20_lacks_L60 hG k14 hk14 _ _ _ _ _ _ hk hn hZ (lv_sub hl [0, 2] rfl) hw
  · replace hw := hw.2 c6
    refine lv_iconst (v := 1) hx hb dX20_lacks_47 (by decide) ?_
    refine z_aload hC dX20_lacks_48 (lv_at hl 3 rfl) ?_
    obtain ⟨b4, hr0, hw⟩ := hw
    subst hr0
    obtain ⟨fs0, g5, hM0, hx0, hw⟩ := hw
    refine z_getN hC hZ hM0 zc20 0 (by decide) q970 (fun _ h9 => h9) hx0 dX20_lacks_50 ?_
    refine lv_ishl hx hb dX20_lacks_53 ?_
    refine lv_iconst (v := (-1)) hx hb dX20_lacks_54 (by decide) ?_
    refine lv_ixor hx hb dX20_lacks_55 ?_
    refine lv_goto (tgt := 60) hx hb dX20_lacks_56 (by decide) ?_
    exact wk_X20_lacks_L60 hG k14 hk14 _ _ _ _ _ _ hk hn hZ (lv_sub hl [0, 2] rfl) hw
def wp_X20_lacks_L14 (D : zD) (post : Int32 → zM → Prop) (o : Nat) : Nat → Nat → Nat → Int32 → Option Nat → zM → Prop
  | 0 => fun _ _ _ _ _ => False
  | f + 1 => fun k n x2 x3 M =>
    ((zd x3 fun b7 => (zis M b7 [27] ∧ wp_J15_hasNext D (fun r8 M => ((r8 = 0 → post x2 M) ∧ (¬ r8 = 0 → ((zis M b7 [27] ∧ wp_J15_next D (fun r11 M => ((∀ w, r11 = some w → zis M w [20]) ∧ ((zd r11 fun b14 => zgI M b14 20 0 fun g15 => (((zis M o [18] ∧ wp_X21_other D (fun r16 M => wp_X20_lacks_L44 D post o (wp_X20_lacks_L14 D post o f) k n x2 (some b7) (some b14) x2 g15 r16 M) o M) ∨ (zis M o [19] ∧ wp_X22_other D (fun r19 M => wp_X20_lacks_L44 D post o (wp_X20_lacks_L14 D post o f) k n x2 (some b7) (some b14) x2 g15 r19 M) o M))))))) b7 M))))) b7 M)))
set_option maxHeartbeats 4000000 in
set_option maxRecDepth 100000 in
theorem wk_X20_lacks_L14 {p : Program} {l : Launch} {e : Env} {s : State} {m : MethodId} {args : Array Value} {below : List Frame} {meth : Method} {c : Code} {D : zD} {post : Int32 → zM → Prop} {K N : Nat} {o : Nat} (hG : zGx p l s m args meth c cX20_lacks 5 "PluralBranches$Choice" D (some .int) "lacks" []) : ∀ (f : Nat), ∀ {H : Heap} {locs : List Loc} {cells slots : Nat} {ls : Array Slot} (k : Nat) (n : Nat) (x2 : Int32) (x3 : Option Nat) (M : zM), cells + k ≤ K → slots + n ≤ N → zS D M H locs → lv_has ls 5 [(0, .ref o), (2, .int x2), (3, va_rf x3)] → wp_X20_lacks_L14 D post o f k n x2 x3 M → W p l e (rm_X20_lacks K N) s m args below meth c H locs cells slots (vx_MQ below (zQ D zI post) (zX D (fun _ _ => False)) args s K N (zA D)) (F0 m 14 ls []) := by
  have hC := hG.1
  have hx := hC.x
  have hb := hC.b
  have hown := hC.o
  have hts := hC.ts
  have hlt := hG.2.2.2.2.2
  intro f
  induction f with
  | zero =>
    intro H locs cells slots ls k n x2 x3 M hk hn hZ hl hw
    exact absurd hw (fun h => h)
  | succ f ih =>
    intro H locs cells slots ls k n x2 x3 M hk hn hZ hl hw
    refine z_aload_n hC dX20_lacks_14 rfl (lv_at hl 2 rfl) ?_
    obtain ⟨b23, hr0, hw⟩ := hw
    subst hr0
    obtain ⟨⟨ci0, fs0, hci0, hM0⟩, hw⟩ := hw
    obtain ⟨C0, T0, N0, ty0, hc0, hsel0, hf0⟩ : ∃ (C0 : String) (T0 : u_T) (N0 : Nat) (ty0 : Nat → FieldType), zCls ci0 C0 T0 N0 ty0 ∧ Cond.selects C0 ⟨"java/util/Iterator", "hasNext", "()Z"⟩ yJ15_hasNext ∈ lw_all ∧ (C0, ⟨"java/util/Iterator", "hasNext", "()Z"⟩, yJ15_hasNext) ∈ zFs := (zal ⟨_, _, _, _, zc27, q1041, List.mem_of_getElem? (i := 0) rfl⟩ (za0) : ∀ ci ∈ [27], ∃ (C0 : String) (T0 : u_T) (N0 : Nat) (ty0 : Nat → FieldType), zCls ci C0 T0 N0 ty0 ∧ Cond.selects C0 ⟨"java/util/Iterator", "hasNext", "()Z"⟩ yJ15_hasNext ∈ lw_all ∧ (C0, ⟨"java/util/Iterator", "hasNext", "()Z"⟩, yJ15_hasNext) ∈ zFs) ci0 hci0
    refine z_callI5 hZ (vx_runF (As := []) (rest := []) (hC.vK.1 _ _ hc0.1).2 hC.fix (w_J15_hasNext hlt hw) (va_cwF 0 hts (lw_app (zal q1068 (zal hsel0 (zal q1043 (zal q108 za0)))) (lw_meth q1045)) rfl rfl rfl (hC.K.2.2.2.1 _ hf0) (by decide +kernel) ⟨Nat.le_of_ble_eq_true rfl, Nat.le_of_ble_eq_true rfl⟩) (z_preV hC hZ hM0 hc0) rfl rfl hl.1 rfl (lv_room (Nat.zero_le _)) dX20_lacks_15 ⟨(show cells + 0 ≤ K by omega), (show slots + 0 ≤ N by omega)⟩) (fun r24 M H locs hw1 hZ => ?_) (fun q M H locs ci fs E T9 N9 hw hZ hc1 hM1 hb1 => False.elim hw)
    replace hw := hw1
    clear hw1
    refine W.cs (cells' := cells) (slots' := slots) rfl rfl ?_
    refine lv_if_eq (tgt := 65) hx hb dX20_lacks_20 (by decide) (fun c38 => ?_) (fun c38 => ?_)
    · replace hw := hw.1 c38
      refine lv_iload_n hx hb dX20_lacks_65 rfl (lv_at hl 1 rfl) ?_
      exact z_iret hG hZ (by omega) (by omega) hw dX20_lacks_66
    · replace hw := hw.2 c38
      refine lv_aload_n hx hb dX20_lacks_23 rfl (lv_at hl 2 rfl) ?_
      obtain ⟨⟨ci0, fs0, hci0, hM0⟩, hw⟩ := hw
      obtain ⟨C0, T0, N0, ty0, hc0, hsel0, hf0⟩ : ∃ (C0 : String) (T0 : u_T) (N0 : Nat) (ty0 : Nat → FieldType), zCls ci0 C0 T0 N0 ty0 ∧ Cond.selects C0 ⟨"java/util/Iterator", "next", "()Ljava/lang/Object;"⟩ yJ15_next ∈ lw_all ∧ (C0, ⟨"java/util/Iterator", "next", "()Ljava/lang/Object;"⟩, yJ15_next) ∈ zFs := (zal ⟨_, _, _, _, zc27, q1050, List.mem_of_getElem? (i := 1) rfl⟩ (za0) : ∀ ci ∈ [27], ∃ (C0 : String) (T0 : u_T) (N0 : Nat) (ty0 : Nat → FieldType), zCls ci C0 T0 N0 ty0 ∧ Cond.selects C0 ⟨"java/util/Iterator", "next", "()Ljava/lang/Object;"⟩ yJ15_next ∈ lw_all ∧ (C0, ⟨"java/util/Iterator", "next", "()Ljava/lang/Object;"⟩, yJ15_next) ∈ zFs) ci0 hci0
      refine z_callR5 hZ (vx_runF (As := []) (rest := []) (hC.vK.1 _ _ hc0.1).2 hC.fix (w_J15_next hlt hw) (va_cwF 0 hts (lw_app (zal q1070 (zal hsel0 (zal q1052 (zal q108 za0)))) (lw_meth q1054)) rfl rfl rfl (hC.K.2.2.2.1 _ hf0) (by decide +kernel) ⟨Nat.le_of_ble_eq_true rfl, Nat.le_of_ble_eq_true rfl⟩) (z_preV hC hZ hM0 hc0) rfl rfl hl.1 rfl (lv_room (Nat.zero_le _)) dX20_lacks_24 ⟨(show cells + 0 ≤ K by omega), (show slots + 0 ≤ N by omega)⟩) (fun r27 M H locs hw1 hZ => ?_) (fun q M H locs ci fs E T9 N9 hw hZ hc1 hM1 hb1 => False.elim hw)
      replace hw := hw1
      clear hw1
      refine W.cs (cells' := cells) (slots' := slots) rfl rfl ?_
      obtain ⟨hc0, hw⟩ := hw
      refine z_castO (r := r27) hC hZ hc0 (zal ⟨_, _, _, _, zc20, (Or.inl rfl)⟩ (za0)) q962 dX20_lacks_29 ?_
      refine z_astore (i := 4) (lv' := [(4, va_rf r27), (0, .ref o), (2, .int x2), (3, .ref b23)]) hC dX20_lacks_32 hl (by decide) rfl (fun ls hl1 => ?_)
      replace hl := hl1
      clear hl1
      refine lv_iload_n hx hb dX20_lacks_34 rfl (lv_at hl 2 rfl) ?_
      refine z_aload hC dX20_lacks_35 (lv_at hl 0 rfl) ?_
      obtain ⟨b30, hr0, hw⟩ := hw
      subst hr0
      obtain ⟨fs0, g31, hM0, hx0, hw⟩ := hw
      refine z_getN hC hZ hM0 zc20 0 (by decide) q970 (fun _ h9 => h9) hx0 dX20_lacks_37 ?_
      refine lv_aload_n hx hb dX20_lacks_40 rfl (lv_at hl 1 rfl) ?_
      rcases hw with hw | hw
      · obtain ⟨⟨ci0, fs0, hci0, hM0⟩, hw⟩ := hw
        obtain ⟨C0, T0, N0, ty0, hc0, hsel0⟩ : ∃ (C0 : String) (T0 : u_T) (N0 : Nat) (ty0 : Nat → FieldType), zCls ci0 C0 T0 N0 ty0 ∧ Cond.selects C0 ⟨"PluralBranches$Choice", "other", "()I"⟩ yX21_other ∈ lw_all := (zal ⟨_, _, _, _, zc18, q988⟩ (za0) : ∀ ci ∈ [18], ∃ (C0 : String) (T0 : u_T) (N0 : Nat) (ty0 : Nat → FieldType), zCls ci C0 T0 N0 ty0 ∧ Cond.selects C0 ⟨"PluralBranches$Choice", "other", "()I"⟩ yX21_other ∈ lw_all) ci0 hci0
        refine z_callI hZ (vx_runU (As := []) (rest := [.int g31, .int x2]) hC.fix (w_X21_other hlt hw) (va_cwA (owner := "PluralBranches$Choice") (x := ⟨"PluralBranches$Choice", "other", "()I"⟩) 0 hts (lw_app (zal q1124 (zal q984 (zal hsel0 (zal q989 (zal q100 za0))))) (lw_meth q990)) rfl rfl rfl (hC.nw q983 rfl) (by decide +kernel) ⟨Nat.le_of_ble_eq_true rfl, Nat.le_of_ble_eq_true rfl⟩) (z_preV hC hZ hM0 hc0) rfl rfl hl.1 rfl (lv_room (Nat.le_trans (zrm1 rfl (zrm1 rfl zrm0)) (Nat.le_of_ble_eq_true rfl))) dX20_lacks_41 ⟨(show cells + 0 ≤ K by omega), (show slots + 0 ≤ N by omega)⟩) (fun r32 M H locs hw1 hZ => ?_) (fun q M H locs ci fs E T9 N9 hw hZ hc1 hM1 hb1 => False.elim hw)
        replace hw := hw1
        clear hw1
        refine W.cs (cells' := cells) (slots' := slots) rfl rfl ?_
        exact wk_X20_lacks_L44 hG _ (fun {_ _ _ _ _} _z0 _z1 _z2 _z3 _z4 h1 h2 h3 h4 h5 => ih _z0 _z1 _z2 _z3 _z4 h1 h2 h3 h4 h5) _ _ _ _ _ _ _ _ _ hk hn hZ (lv_sub hl [1, 2, 3, 0] rfl) hw
      · obtain ⟨⟨ci0, fs0, hci0, hM0⟩, hw⟩ := hw
        obtain ⟨C0, T0, N0, ty0, hc0, hsel0⟩ : ∃ (C0 : String) (T0 : u_T) (N0 : Nat) (ty0 : Nat → FieldType), zCls ci0 C0 T0 N0 ty0 ∧ Cond.selects C0 ⟨"PluralBranches$Choice", "other", "()I"⟩ yX22_other ∈ lw_all := (zal ⟨_, _, _, _, zc19, q985⟩ (za0) : ∀ ci ∈ [19], ∃ (C0 : String) (T0 : u_T) (N0 : Nat) (ty0 : Nat → FieldType), zCls ci C0 T0 N0 ty0 ∧ Cond.selects C0 ⟨"PluralBranches$Choice", "other", "()I"⟩ yX22_other ∈ lw_all) ci0 hci0
        refine z_callI hZ (vx_runU (As := []) (rest := [.int g31, .int x2]) hC.fix (w_X22_other hlt hw) (va_cwA (owner := "PluralBranches$Choice") (x := ⟨"PluralBranches$Choice", "other", "()I"⟩) 0 hts (lw_app (zal q1124 (zal q984 (zal hsel0 (zal q986 (zal q101 za0))))) (lw_meth q987)) rfl rfl rfl (hC.nw q983 rfl) (by decide +kernel) ⟨Nat.le_of_ble_eq_true rfl, Nat.le_of_ble_eq_true rfl⟩) (z_preV hC hZ hM0 hc0) rfl rfl hl.1 rfl (lv_room (Nat.le_trans (zrm1 rfl (zrm1 rfl zrm0)) (Nat.le_of_ble_eq_true rfl))) dX20_lacks_41 ⟨(show cells + 0 ≤ K by omega), (show slots + 0 ≤ N by omega)⟩) (fun r35 M H locs hw1 hZ => ?_) (fun q M H locs ci fs E T9 N9 hw hZ hc1 hM1 hb1 => False.elim hw)
        replace hw := hw1
        clear hw1
        refine W.cs (cells' := cells) (slots' := slots) rfl rfl ?_
        exact wk_X20_lacks_L44 hG _ (fun {_ _ _ _ _} _z0 _z1 _z2 _z3 _z4 h1 h2 h3 h4 h5 => ih _z0 _z1 _z2 _z3 _z4 h1 h2 h3 h4 h5) _ _ _ _ _ _ _ _ _ hk hn hZ (lv_sub hl [1, 2, 3, 0] rfl) hw
def wp_X20_lacks_L5 (D : zD) (post : Int32 → zM → Prop) (o : Nat) (k : Nat) (n : Nat) (y0 : Int32) (M : zM) : Prop :=
    (zgRm M o [(18, 0), (19, 0)] fun g39 => ((zd g39 fun b40 => (zis M b40 [26] ∧ (∃ k42 n43, k42 ≤ k ∧ n43 ≤ n ∧ wp_J3_iterator D (fun r41 M => (∃ f, wp_X20_lacks_L14 D post o f (k - k42) (n - n43) y0 r41 M)) k42 n43 b40 M)))))
set_option maxHeartbeats 4000000 in
set_option maxRecDepth 100000 in
theorem wk_X20_lacks_L5 {p : Program} {l : Launch} {e : Env} {s : State} {m : MethodId} {args : Array Value} {below : List Frame} {meth : Method} {c : Code} {D : zD} {post : Int32 → zM → Prop} {K N : Nat} {o : Nat} (hG : zGx p l s m args meth c cX20_lacks 5 "PluralBranches$Choice" D (some .int) "lacks" []) : ∀ {H : Heap} {locs : List Loc} {cells slots : Nat} {ls : Array Slot} (k : Nat) (n : Nat) (y0 : Int32) (M : zM), cells + k ≤ K → slots + n ≤ N → zS D M H locs → lv_has ls 5 [(0, .ref o)] → wp_X20_lacks_L5 D post o k n y0 M → W p l e (rm_X20_lacks K N) s m args below meth c H locs cells slots (vx_MQ below (zQ D zI post) (zX D (fun _ _ => False)) args s K N (zA D)) (F0 m 5 ls [.int y0]) := by
  have hC := hG.1
  have hx := hC.x
  have hb := hC.b
  have hown := hC.o
  have hts := hC.ts
  have hlt := hG.2.2.2.2.2
  intro H locs cells slots ls k n y0 M hk hn hZ hl hw
  refine lv_istore_n (i := 2) (lv' := [(2, .int y0), (0, .ref o)]) hx hb dX20_lacks_5 rfl hl (by decide) rfl (fun ls hl1 => ?_)
  replace hl := hl1
  clear hl1
  refine lv_aload_n hx hb dX20_lacks_6 rfl (lv_at hl 1 rfl) ?_
  obtain ⟨q0, fs0, g44, hL0, hM0, hx0, hw⟩ := hw
  refine z_getm hC hZ hM0 (L := [(18, 0), (19, 0)]) (ref := "PluralBranches$Choice") (index := 14) (zal (⟨_, _, _, _, zc18, by decide, q821, (fun _ h9 => h9)⟩) (zal (⟨_, _, _, _, zc19, by decide, q821, (fun _ h9 => h9)⟩) (za0))) hL0 hx0 dX20_lacks_7 ?_
  obtain ⟨b45, hr0, hw⟩ := hw
  subst hr0
  obtain ⟨⟨ci0, fs0, hci0, hM0⟩, hw⟩ := hw
  obtain ⟨k47, n48, hk1, hn1, hw⟩ := hw
  obtain rfl : ci0 = 26 := List.mem_singleton.mp hci0
  refine z_callR hZ (vx_runV (As := []) (rest := []) hC.fix (w_J3_iterator hlt hw) (cwV 0 hts (lw_V q1066 q1014 q1015 q74 q1016) rfl rfl rfl ⟨rfl, dd_J3_iterator⟩ ⟨Nat.le_of_ble_eq_true rfl, Nat.le_of_ble_eq_true rfl⟩) (z_preV hC hZ hM0 zc26) rfl rfl hl.1 rfl (lv_room (Nat.zero_le _)) dX20_lacks_10 ⟨(show cells + k47 ≤ K by omega), (show slots + n48 ≤ N by omega)⟩) (fun r46 M H locs hw1 hZ => ?_) (fun q M H locs ci fs E T9 N9 hw hZ hc1 hM1 hb1 => False.elim hw)
  replace hw := hw1
  clear hw1
  have hk : cells + k47 + (k - k47) ≤ K := by omega
  have hn : slots + n48 + (n - n48) ≤ N := by omega
  generalize cells + k47 = cells at hk ⊢
  generalize slots + n48 = slots at hn ⊢
  clear hk1 hn1
  refine z_astore_n (i := 3) (lv' := [(3, va_rf r46), (2, .int y0), (0, .ref o)]) hC dX20_lacks_13 rfl hl (by decide) rfl (fun ls hl1 => ?_)
  replace hl := hl1
  clear hl1
  obtain ⟨f1, hw⟩ := hw
  exact wk_X20_lacks_L14 hG f1 _ _ _ _ _ hk hn hZ (lv_sub hl [2, 1, 0] rfl) hw
def wp_X20_lacks (D : zD) (post : Int32 → zM → Prop) (k : Nat) (n : Nat) (o : Nat) (a0 : Option Nat) (M : zM) : Prop :=
    (((zis M o [18] ∧ wp_X21_wanted D (fun r49 M => wp_X20_lacks_L5 D post o k n r49 M) o a0 M) ∨ (zis M o [19] ∧ wp_X22_wanted D (fun r52 M => wp_X20_lacks_L5 D post o k n r52 M) o a0 M)))
set_option maxHeartbeats 4000000 in
set_option maxRecDepth 100000 in
theorem w_X20_lacks {l : Launch} {D : zD} {post : Int32 → zM → Prop} (hlt : l.stackTraces = false) {k : Nat} {n : Nat} {o : Nat} {a0 : Option Nat} {M : zM} (hw : wp_X20_lacks D post k n o a0 M) : zMet l D yX20_lacks (ws_ yX20_lacks cX20_lacks 5 (some .int)) (rm_X20_lacks k n) k n [.ref o, va_rf a0] M zI post (fun _ _ => False) := by
  unfold wp_X20_lacks at hw
  have hlv : lv_args 0 [.ref o, va_rf a0] = [(0, .ref o), (1, va_rf a0)] := (zargs1 rfl (zargs1 (zcat _) rfl))
  refine z_ofW hlt (by decide) (Nat.le_trans (zsl1 rfl (zsl1 (zcat _) (Nat.le_refl 0 : (lg_sl []).length ≤ 0))) (Nat.le_of_ble_eq_true rfl)) hlv ?_
  intro p e s m args below meth c ls hG hZ hl
  have hC := hG.1
  have hx := hC.x
  have hb := hC.b
  have hown := hC.o
  have hts := hC.ts
  have hlt := hG.2.2.2.2.2
  obtain ⟨cells, hce⟩ : ∃ z : Nat, z = 0 := ⟨0, rfl⟩
  obtain ⟨slots, hsl⟩ : ∃ z : Nat, z = 0 := ⟨0, rfl⟩
  refine W.cs (cells' := cells) (slots' := slots) hce.symm hsl.symm ?_
  have hk : cells + k ≤ k := by omega
  have hn : slots + n ≤ n := by omega
  clear hce hsl
  refine lv_aload_n hx hb dX20_lacks_0 rfl (lv_at hl 0 rfl) ?_
  refine z_aload_n hC dX20_lacks_1 rfl (lv_at hl 1 rfl) ?_
  rcases hw with hw | hw
  · obtain ⟨⟨ci0, fs0, hci0, hM0⟩, hw⟩ := hw
    obtain ⟨C0, T0, N0, ty0, hc0, hsel0⟩ : ∃ (C0 : String) (T0 : u_T) (N0 : Nat) (ty0 : Nat → FieldType), zCls ci0 C0 T0 N0 ty0 ∧ Cond.selects C0 ⟨"PluralBranches$Choice", "wanted", "(LPluralBranches$Language;)I"⟩ yX21_wanted ∈ lw_all := (zal ⟨_, _, _, _, zc18, q1120⟩ (za0) : ∀ ci ∈ [18], ∃ (C0 : String) (T0 : u_T) (N0 : Nat) (ty0 : Nat → FieldType), zCls ci C0 T0 N0 ty0 ∧ Cond.selects C0 ⟨"PluralBranches$Choice", "wanted", "(LPluralBranches$Language;)I"⟩ yX21_wanted ∈ lw_all) ci0 hci0
    refine z_callI hZ (vx_runU (As := [va_rf a0]) (rest := []) hC.fix (w_X21_wanted hlt hw) (va_cwA (owner := "PluralBranches$Choice") (x := ⟨"PluralBranches$Choice", "wanted", "(LPluralBranches$Language;)I"⟩) 1 hts (lw_app (zal q1114 (zal q1116 (zal hsel0 (zal q1121 (zal q100 za0))))) (lw_meth q1122)) rfl rfl rfl (hC.nw q1115 rfl) (by decide +kernel) ⟨Nat.le_of_ble_eq_true rfl, Nat.le_of_ble_eq_true rfl⟩) (z_preV hC hZ hM0 hc0) rfl rfl hl.1 rfl (lv_room (Nat.zero_le _)) dX20_lacks_2 ⟨(show cells + 0 ≤ k by omega), (show slots + 0 ≤ n by omega)⟩) (fun r55 M H locs hw1 hZ => ?_) (fun q M H locs ci fs E T9 N9 hw hZ hc1 hM1 hb1 => False.elim hw)
    replace hw := hw1
    clear hw1
    refine W.cs (cells' := cells) (slots' := slots) rfl rfl ?_
    exact wk_X20_lacks_L5 hG _ _ _ _ hk hn hZ (lv_sub hl [0] rfl) hw
  · obtain ⟨⟨ci0, fs0, hci0, hM0⟩, hw⟩ := hw
    obtain ⟨C0, T0, N0, ty0, hc0, hsel0⟩ : ∃ (C0 : String) (T0 : u_T) (N0 : Nat) (ty0 : Nat → FieldType), zCls ci0 C0 T0 N0 ty0 ∧ Cond.selects C0 ⟨"PluralBranches$Choice", "wanted", "(LPluralBranches$Language;)I"⟩ yX22_wanted ∈ lw_all := (zal ⟨_, _, _, _, zc19, q1117⟩ (za0) : ∀ ci ∈ [19], ∃ (C0 : String) (T0 : u_T) (N0 : Nat) (ty0 : Nat → FieldType), zCls ci C0 T0 N0 ty0 ∧ Cond.selects C0 ⟨"PluralBranches$Choice", "wanted", "(LPluralBranches$Language;)I"⟩ yX22_wanted ∈ lw_all) ci0 hci0
    refine z_callI hZ (vx_runU (As := [va_rf a0]) (rest := []) hC.fix (w_X22_wanted hlt hw) (va_cwA (owner := "PluralBranches$Choice") (x := ⟨"PluralBranches$Choice", "wanted", "(LPluralBranches$Language;)I"⟩) 1 hts (lw_app (zal q1114 (zal q1116 (zal hsel0 (zal q1118 (zal q101 za0))))) (lw_meth q1119)) rfl rfl rfl (hC.nw q1115 rfl) (by decide +kernel) ⟨Nat.le_of_ble_eq_true rfl, Nat.le_of_ble_eq_true rfl⟩) (z_preV hC hZ hM0 hc0) rfl rfl hl.1 rfl (lv_room (Nat.zero_le _)) dX20_lacks_2 ⟨(show cells + 0 ≤ k by omega), (show slots + 0 ≤ n by omega)⟩) (fun r58 M H locs hw1 hZ => ?_) (fun q M H locs ci fs E T9 N9 hw hZ hc1 hM1 hb1 => False.elim hw)
    replace hw := hw1
    clear hw1
    refine W.cs (cells' := cells) (slots' := slots) rfl rfl ?_
    exact wk_X20_lacks_L5 hG _ _ _ _ hk hn hZ (lv_sub hl [0] rfl) hw
abbrev rm_X20_dead (K N : Nat) : Room := { frames := 9, cells := K, slots := N, locals := 246 }
def wp_X20_dead_L22 (D : zD) (post : Int32 → zM → Prop) (o : Nat) (k : Nat) (n : Nat) (y0 : Int32) (M : zM) : Prop :=
    post y0 M
set_option maxHeartbeats 4000000 in
set_option maxRecDepth 100000 in
theorem wk_X20_dead_L22 {p : Program} {l : Launch} {e : Env} {s : State} {m : MethodId} {args : Array Value} {below : List Frame} {meth : Method} {c : Code} {D : zD} {post : Int32 → zM → Prop} {K N : Nat} {o : Nat} (hG : zGx p l s m args meth c cX20_dead 2 "PluralBranches$Choice" D (some .int) "dead" []) : ∀ {H : Heap} {locs : List Loc} {cells slots : Nat} {ls : Array Slot} (k : Nat) (n : Nat) (y0 : Int32) (M : zM), cells + k ≤ K → slots + n ≤ N → zS D M H locs → lv_has ls 2 [] → wp_X20_dead_L22 D post o k n y0 M → W p l e (rm_X20_dead K N) s m args below meth c H locs cells slots (vx_MQ below (zQ D zI post) (zX D (fun _ _ => False)) args s K N (zA D)) (F0 m 22 ls [.int y0]) := by
  have hC := hG.1
  have hx := hC.x
  have hb := hC.b
  have hown := hC.o
  have hts := hC.ts
  have hlt := hG.2.2.2.2.2
  intro H locs cells slots ls k n y0 M hk hn hZ hl hw
  exact z_iret hG hZ (by omega) (by omega) hw dX20_dead_22
def wp_X20_dead_L14 (D : zD) (post : Int32 → zM → Prop) (o : Nat) (k : Nat) (n : Nat) (y0 : Int32) (y1 : Option Nat) (y2 : Int32) (M : zM) : Prop :=
    ((zd y1 fun b1 => (zis M b1 [18, 19] ∧ wp_X20_of D (fun r2 M => wp_X20_dead_L22 D post o k n (y0 <<< (r2 &&& 31)) M) b1 y2 M)))
set_option maxHeartbeats 4000000 in
set_option maxRecDepth 100000 in
theorem wk_X20_dead_L14 {p : Program} {l : Launch} {e : Env} {s : State} {m : MethodId} {args : Array Value} {below : List Frame} {meth : Method} {c : Code} {D : zD} {post : Int32 → zM → Prop} {K N : Nat} {o : Nat} (hG : zGx p l s m args meth c cX20_dead 2 "PluralBranches$Choice" D (some .int) "dead" []) : ∀ {H : Heap} {locs : List Loc} {cells slots : Nat} {ls : Array Slot} (k : Nat) (n : Nat) (y0 : Int32) (y1 : Option Nat) (y2 : Int32) (M : zM), cells + k ≤ K → slots + n ≤ N → zS D M H locs → lv_has ls 2 [] → wp_X20_dead_L14 D post o k n y0 y1 y2 M → W p l e (rm_X20_dead K N) s m args below meth c H locs cells slots (vx_MQ below (zQ D zI post) (zX D (fun _ _ => False)) args s K N (zA D)) (F0 m 14 ls [.int y2, va_rf y1, .int y0]) := by
  have hC := hG.1
  have hx := hC.x
  have hb := hC.b
  have hown := hC.o
  have hts := hC.ts
  have hlt := hG.2.2.2.2.2
  intro H locs cells slots ls k n y0 y1 y2 M hk hn hZ hl hw
  obtain ⟨b5, hr0, hw⟩ := hw
  subst hr0
  obtain ⟨⟨ci0, fs0, hci0, hM0⟩, hw⟩ := hw
  obtain ⟨C0, T0, N0, ty0, hc0, hsel0⟩ : ∃ (C0 : String) (T0 : u_T) (N0 : Nat) (ty0 : Nat → FieldType), zCls ci0 C0 T0 N0 ty0 ∧ Cond.selects C0 ⟨"PluralBranches$Choice", "of", "(I)I"⟩ yX20_of ∈ lw_all := (zal ⟨_, _, _, _, zc18, q958⟩ (zal ⟨_, _, _, _, zc19, q957⟩ (za0)) : ∀ ci ∈ [18, 19], ∃ (C0 : String) (T0 : u_T) (N0 : Nat) (ty0 : Nat → FieldType), zCls ci C0 T0 N0 ty0 ∧ Cond.selects C0 ⟨"PluralBranches$Choice", "of", "(I)I"⟩ yX20_of ∈ lw_all) ci0 hci0
  refine z_callI hZ (vx_runU (As := [.int y2]) (rest := [.int y0]) hC.fix (w_X20_of hlt hw) (va_cwU (owner := "PluralBranches$Choice") (x := ⟨"PluralBranches$Choice", "of", "(I)I"⟩) 1 hts (lw_app (zal q1138 (zal q956 (zal hsel0 (zal q955 (zal q99 za0))))) (lw_meth q959)) rfl rfl rfl rfl (by decide +kernel) ⟨Nat.le_of_ble_eq_true rfl, Nat.le_of_ble_eq_true rfl⟩) (z_preV hC hZ hM0 hc0) rfl rfl hl.1 rfl (lv_room (Nat.le_trans (zrm1 rfl zrm0) (Nat.le_of_ble_eq_true rfl))) dX20_dead_14 ⟨(show cells + 0 ≤ K by omega), (show slots + 0 ≤ N by omega)⟩) (fun r6 M H locs hw1 hZ => ?_) (fun q M H locs ci fs E T9 N9 hw hZ hc1 hM1 hb1 => False.elim hw)
  replace hw := hw1
  clear hw1
  refine W.cs (cells' := cells) (slots' := slots) rfl rfl ?_
  refine lv_ishl hx hb dX20_dead_17 ?_
  refine lv_goto (tgt := 22) hx hb dX20_dead_18 (by decide) ?_
  exact wk_X20_dead_L22 hG _ _ _ _ hk hn hZ (lv_sub hl [] rfl) hw
def wp_X20_dead (D : zD) (post : Int32 → zM → Prop) (k : Nat) (n : Nat) (o : Nat) (a0 : Option Nat) (M : zM) : Prop :=
    ((zis M o [18, 19] ∧ (∃ k10 n11, k10 ≤ k ∧ n11 ≤ n ∧ wp_X20_lacks D (fun r9 M => ((¬ r9 = 0 → wp_X20_dead_L22 D post o (k - k10) (n - n11) (0 : Int32) M) ∧ (r9 = 0 → (((zis M o [18] ∧ wp_X21_other D (fun r12 M => wp_X20_dead_L14 D post o (k - k10) (n - n11) (1 : Int32) (some o) r12 M) o M) ∨ (zis M o [19] ∧ wp_X22_other D (fun r15 M => wp_X20_dead_L14 D post o (k - k10) (n - n11) (1 : Int32) (some o) r15 M) o M)))))) k10 n11 o a0 M)))
set_option maxHeartbeats 4000000 in
set_option maxRecDepth 100000 in
theorem w_X20_dead {l : Launch} {D : zD} {post : Int32 → zM → Prop} (hlt : l.stackTraces = false) {k : Nat} {n : Nat} {o : Nat} {a0 : Option Nat} {M : zM} (hw : wp_X20_dead D post k n o a0 M) : zMet l D yX20_dead (ws_ yX20_dead cX20_dead 2 (some .int)) (rm_X20_dead k n) k n [.ref o, va_rf a0] M zI post (fun _ _ => False) := by
  unfold wp_X20_dead at hw
  have hlv : lv_args 0 [.ref o, va_rf a0] = [(0, .ref o), (1, va_rf a0)] := (zargs1 rfl (zargs1 (zcat _) rfl))
  refine z_ofW hlt (by decide) (Nat.le_trans (zsl1 rfl (zsl1 (zcat _) (Nat.le_refl 0 : (lg_sl []).length ≤ 0))) (Nat.le_of_ble_eq_true rfl)) hlv ?_
  intro p e s m args below meth c ls hG hZ hl
  have hC := hG.1
  have hx := hC.x
  have hb := hC.b
  have hown := hC.o
  have hts := hC.ts
  have hlt := hG.2.2.2.2.2
  obtain ⟨cells, hce⟩ : ∃ z : Nat, z = 0 := ⟨0, rfl⟩
  obtain ⟨slots, hsl⟩ : ∃ z : Nat, z = 0 := ⟨0, rfl⟩
  refine W.cs (cells' := cells) (slots' := slots) hce.symm hsl.symm ?_
  have hk : cells + k ≤ k := by omega
  have hn : slots + n ≤ n := by omega
  clear hce hsl
  refine lv_aload_n hx hb dX20_dead_0 rfl (lv_at hl 0 rfl) ?_
  refine z_aload_n hC dX20_dead_1 rfl (lv_at hl 1 rfl) ?_
  obtain ⟨⟨ci0, fs0, hci0, hM0⟩, hw⟩ := hw
  obtain ⟨k20, n21, hk1, hn1, hw⟩ := hw
  obtain ⟨C0, T0, N0, ty0, hc0, hsel0⟩ : ∃ (C0 : String) (T0 : u_T) (N0 : Nat) (ty0 : Nat → FieldType), zCls ci0 C0 T0 N0 ty0 ∧ Cond.selects C0 ⟨"PluralBranches$Choice", "lacks", "(LPluralBranches$Language;)I"⟩ yX20_lacks ∈ lw_all := (zal ⟨_, _, _, _, zc18, q1112⟩ (zal ⟨_, _, _, _, zc19, q1111⟩ (za0)) : ∀ ci ∈ [18, 19], ∃ (C0 : String) (T0 : u_T) (N0 : Nat) (ty0 : Nat → FieldType), zCls ci C0 T0 N0 ty0 ∧ Cond.selects C0 ⟨"PluralBranches$Choice", "lacks", "(LPluralBranches$Language;)I"⟩ yX20_lacks ∈ lw_all) ci0 hci0
  refine z_callI hZ (vx_runU (As := [va_rf a0]) (rest := []) hC.fix (w_X20_lacks hlt hw) (va_cwU (owner := "PluralBranches$Choice") (x := ⟨"PluralBranches$Choice", "lacks", "(LPluralBranches$Language;)I"⟩) 1 hts (lw_app (zal q1137 (zal q1110 (zal hsel0 (zal q1109 (zal q99 za0))))) (lw_meth q1113)) rfl rfl rfl rfl (by decide +kernel) ⟨Nat.le_of_ble_eq_true rfl, Nat.le_of_ble_eq_true rfl⟩) (z_preV hC hZ hM0 hc0) rfl rfl hl.1 rfl (lv_room (Nat.zero_le _)) dX20_dead_2 ⟨(show cells + k20 ≤ k by omega), (show slots + n21 ≤ n by omega)⟩) (fun r19 M H locs hw1 hZ => ?_) (fun q M H locs ci fs E T9 N9 hw hZ hc1 hM1 hb1 => False.elim hw)
  replace hw := hw1
  clear hw1
  have hk : cells + k20 + (k - k20) ≤ k := by omega
  have hn : slots + n21 + (n - n21) ≤ n := by omega
  generalize cells + k20 = cells at hk ⊢
  generalize slots + n21 = slots at hn ⊢
  clear hk1 hn1
  refine lv_if_ne (tgt := 21) hx hb dX20_dead_5 (by decide) (fun c28 => ?_) (fun c28 => ?_)
  · replace hw := hw.1 c28
    refine lv_iconst (v := 0) hx hb dX20_dead_21 (by decide) ?_
    exact wk_X20_dead_L22 hG _ _ _ _ hk hn hZ (lv_sub hl [] rfl) hw
  · replace hw := hw.2 c28
    refine lv_iconst (v := 1) hx hb dX20_dead_8 (by decide) ?_
    refine lv_aload_n hx hb dX20_dead_9 rfl (lv_at hl 0 rfl) ?_
    refine lv_aload_n hx hb dX20_dead_10 rfl (lv_at hl 0 rfl) ?_
    rcases hw with hw | hw
    · obtain ⟨⟨ci0, fs0, hci0, hM0⟩, hw⟩ := hw
      obtain ⟨C0, T0, N0, ty0, hc0, hsel0⟩ : ∃ (C0 : String) (T0 : u_T) (N0 : Nat) (ty0 : Nat → FieldType), zCls ci0 C0 T0 N0 ty0 ∧ Cond.selects C0 ⟨"PluralBranches$Choice", "other", "()I"⟩ yX21_other ∈ lw_all := (zal ⟨_, _, _, _, zc18, q988⟩ (za0) : ∀ ci ∈ [18], ∃ (C0 : String) (T0 : u_T) (N0 : Nat) (ty0 : Nat → FieldType), zCls ci C0 T0 N0 ty0 ∧ Cond.selects C0 ⟨"PluralBranches$Choice", "other", "()I"⟩ yX21_other ∈ lw_all) ci0 hci0
      refine z_callI hZ (vx_runU (As := []) (rest := [.ref o, .int (1 : Int32)]) hC.fix (w_X21_other hlt hw) (va_cwA (owner := "PluralBranches$Choice") (x := ⟨"PluralBranches$Choice", "other", "()I"⟩) 0 hts (lw_app (zal q1124 (zal q984 (zal hsel0 (zal q989 (zal q100 za0))))) (lw_meth q990)) rfl rfl rfl (hC.nw q983 rfl) (by decide +kernel) ⟨Nat.le_of_ble_eq_true rfl, Nat.le_of_ble_eq_true rfl⟩) (z_preV hC hZ hM0 hc0) rfl rfl hl.1 rfl (lv_room (Nat.le_trans (zrm1 rfl (zrm1 rfl zrm0)) (Nat.le_of_ble_eq_true rfl))) dX20_dead_11 ⟨(show cells + 0 ≤ k by omega), (show slots + 0 ≤ n by omega)⟩) (fun r22 M H locs hw1 hZ => ?_) (fun q M H locs ci fs E T9 N9 hw hZ hc1 hM1 hb1 => False.elim hw)
      replace hw := hw1
      clear hw1
      refine W.cs (cells' := cells) (slots' := slots) rfl rfl ?_
      exact wk_X20_dead_L14 hG _ _ _ _ _ _ hk hn hZ (lv_sub hl [] rfl) hw
    · obtain ⟨⟨ci0, fs0, hci0, hM0⟩, hw⟩ := hw
      obtain ⟨C0, T0, N0, ty0, hc0, hsel0⟩ : ∃ (C0 : String) (T0 : u_T) (N0 : Nat) (ty0 : Nat → FieldType), zCls ci0 C0 T0 N0 ty0 ∧ Cond.selects C0 ⟨"PluralBranches$Choice", "other", "()I"⟩ yX22_other ∈ lw_all := (zal ⟨_, _, _, _, zc19, q985⟩ (za0) : ∀ ci ∈ [19], ∃ (C0 : String) (T0 : u_T) (N0 : Nat) (ty0 : Nat → FieldType), zCls ci C0 T0 N0 ty0 ∧ Cond.selects C0 ⟨"PluralBranches$Choice", "other", "()I"⟩ yX22_other ∈ lw_all) ci0 hci0
      refine z_callI hZ (vx_runU (As := []) (rest := [.ref o, .int (1 : Int32)]) hC.fix (w_X22_other hlt hw) (va_cwA (owner := "PluralBranches$Choice") (x := ⟨"PluralBranches$Choice", "other", "()I"⟩) 0 hts (lw_app (zal q1124 (zal q984 (zal hsel0 (zal q986 (zal q101 za0))))) (lw_meth q987)) rfl rfl rfl (hC.nw q983 rfl) (by decide +kernel) ⟨Nat.le_of_ble_eq_true rfl, Nat.le_of_ble_eq_true rfl⟩) (z_preV hC hZ hM0 hc0) rfl rfl hl.1 rfl (lv_room (Nat.le_trans (zrm1 rfl (zrm1 rfl zrm0)) (Nat.le_of_ble_eq_true rfl))) dX20_dead_11 ⟨(show cells + 0 ≤ k by omega), (show slots + 0 ≤ n by omega)⟩) (fun r25 M H locs hw1 hZ => ?_) (fun q M H locs ci fs E T9 N9 hw hZ hc1 hM1 hb1 => False.elim hw)
      replace hw := hw1
      clear hw1
      refine W.cs (cells' := cells) (slots' := slots) rfl rfl ?_
      exact wk_X20_dead_L14 hG _ _ _ _ _ _ hk hn hZ (lv_sub hl [] rfl) hw
abbrev rm_X21_dead (K N : Nat) : Room := { frames := 10, cells := K, slots := N, locals := 267 }
def wp_X21_dead_L79 (D : zD) (post : Int32 → zM → Prop) (o : Nat) (k26 : Nat → Nat → Int32 → Int32 → Int32 → zM → Prop) (k : Nat) (n : Nat) (x2 : Int32) (x4 : Int32) (y0 : Int32) (y1 : Int32) (M : zM) : Prop :=
    k26 k n x2 (y0 ||| y1) (x4 + 1) M
set_option maxHeartbeats 4000000 in
set_option maxRecDepth 100000 in
theorem wk_X21_dead_L79 {p : Program} {l : Launch} {e : Env} {s : State} {m : MethodId} {args : Array Value} {below : List Frame} {meth : Method} {c : Code} {D : zD} {post : Int32 → zM → Prop} {K N : Nat} {o : Nat} (hG : zGx p l s m args meth c cX21_dead 6 "PluralBranches$Plural" D (some .int) "dead" []) (k26 : Nat → Nat → Int32 → Int32 → Int32 → zM → Prop) (hk26 : ∀ {H : Heap} {locs : List Loc} {cells slots : Nat} {ls : Array Slot} (k : Nat) (n : Nat) (x2 : Int32) (x3 : Int32) (x4 : Int32) (M : zM), cells + k ≤ K → slots + n ≤ N → zS D M H locs → lv_has ls 6 [(0, .ref o), (2, .int x2), (3, .int x3), (4, .int x4)] → k26 k n x2 x3 x4 M → W p l e (rm_X21_dead K N) s m args below meth c H locs cells slots (vx_MQ below (zQ D zI post) (zX D (fun _ _ => False)) args s K N (zA D)) (F0 m 26 ls [])) : ∀ {H : Heap} {locs : List Loc} {cells slots : Nat} {ls : Array Slot} (k : Nat) (n : Nat) (x2 : Int32) (x4 : Int32) (y0 : Int32) (y1 : Int32) (M : zM), cells + k ≤ K → slots + n ≤ N → zS D M H locs → lv_has ls 6 [(0, .ref o), (2, .int x2), (4, .int x4)] → wp_X21_dead_L79 D post o k26 k n x2 x4 y0 y1 M → W p l e (rm_X21_dead K N) s m args below meth c H locs cells slots (vx_MQ below (zQ D zI post) (zX D (fun _ _ => False)) args s K N (zA D)) (F0 m 79 ls [.int y1, .int y0]) := by
  have hC := hG.1
  have hx := hC.x
  have hb := hC.b
  have hown := hC.o
  have hts := hC.ts
  have hlt := hG.2.2.2.2.2
  intro H locs cells slots ls k n x2 x4 y0 y1 M hk hn hZ hl hw
  refine lv_ior hx hb dX21_dead_79 ?_
  refine lv_istore_n (i := 3) (lv' := [(3, .int (y0 ||| y1)), (0, .ref o), (2, .int x2), (4, .int x4)]) hx hb dX21_dead_80 rfl hl (by decide) rfl (fun ls hl1 => ?_)
  replace hl := hl1
  clear hl1
  refine lv_iinc (v := (x4 + 1)) (lv' := [(4, .int (x4 + 1)), (3, .int (y0 ||| y1)), (0, .ref o), (2, .int x2)]) hx hb dX21_dead_81 hl (k := 3) rfl rfl (by decide) rfl (fun ls hl1 => ?_)
  replace hl := hl1
  clear hl1
  refine lv_goto (tgt := 26) hx hb dX21_dead_84 (by decide) ?_
  exact hk26 _ _ _ _ _ _ hk hn hZ (lv_sub hl [2, 3, 1, 0] rfl) hw
def wp_X21_dead_L78 (D : zD) (post : Int32 → zM → Prop) (o : Nat) (k26 : Nat → Nat → Int32 → Int32 → Int32 → zM → Prop) (k : Nat) (n : Nat) (x2 : Int32) (x4 : Int32) (y0 : Int32) (M : zM) : Prop :=
    wp_X21_dead_L79 D post o k26 k n x2 x4 y0 (0 : Int32) M
set_option maxHeartbeats 4000000 in
set_option maxRecDepth 100000 in
theorem wk_X21_dead_L78 {p : Program} {l : Launch} {e : Env} {s : State} {m : MethodId} {args : Array Value} {below : List Frame} {meth : Method} {c : Code} {D : zD} {post : Int32 → zM → Prop} {K N : Nat} {o : Nat} (hG : zGx p l s m args meth c cX21_dead 6 "PluralBranches$Plural" D (some .int) "dead" []) (k26 : Nat → Nat → Int32 → Int32 → Int32 → zM → Prop) (hk26 : ∀ {H : Heap} {locs : List Loc} {cells slots : Nat} {ls : Array Slot} (k : Nat) (n : Nat) (x2 : Int32) (x3 : Int32) (x4 : Int32) (M : zM), cells + k ≤ K → slots + n ≤ N → zS D M H locs → lv_has ls 6 [(0, .ref o), (2, .int x2), (3, .int x3), (4, .int x4)] → k26 k n x2 x3 x4 M → W p l e (rm_X21_dead K N) s m args below meth c H locs cells slots (vx_MQ below (zQ D zI post) (zX D (fun _ _ => False)) args s K N (zA D)) (F0 m 26 ls [])) : ∀ {H : Heap} {locs : List Loc} {cells slots : Nat} {ls : Array Slot} (k : Nat) (n : Nat) (x2 : Int32) (x4 : Int32) (y0 : Int32) (M : zM), cells + k ≤ K → slots + n ≤ N → zS D M H locs → lv_has ls 6 [(0, .ref o), (2, .int x2), (4, .int x4)] → wp_X21_dead_L78 D post o k26 k n x2 x4 y0 M → W p l e (rm_X21_dead K N) s m args below meth c H locs cells slots (vx_MQ below (zQ D zI post) (zX D (fun _ _ => False)) args s K N (zA D)) (F0 m 78 ls [.int y0]) := by
  have hC := hG.1
  have hx := hC.x
  have hb := hC.b
  have hown := hC.o
  have hts := hC.ts
  have hlt := hG.2.2.2.2.2
  intro H locs cells slots ls k n x2 x4 y0 M hk hn hZ hl hw
  refine lv_iconst (v := 0) hx hb dX21_dead_78 (by decide) ?_
  exact wk_X21_dead_L79 hG k26 hk26 _ _ _ _ _ _ _ hk hn hZ (lv_sub hl [0, 1, 2] rfl) hw
def wp_X21_dead_L26 (D : zD) (post : Int32 → zM → Prop) (o : Nat) : Nat → Nat → Nat → Int32 → Int32 → Int32 → zM → Prop
  | 0 => fun _ _ _ _ _ _ => False
  | f + 1 => fun k n x2 x3 x4 M =>
    (zgR M o 18 0 fun g1 => ((zd g1 fun b2 => (zis M b2 [26] ∧ wp_J3_size D (fun r3 M => ((r3 ≤ x4 → post x3 M) ∧ (¬ r3 ≤ x4 → (zgR M o 18 0 fun g6 => ((zd g6 fun b7 => (zis M b7 [26] ∧ wp_J3_get D (fun r8 M => ((∀ w, r8 = some w → zis M w [20]) ∧ ((zd r8 fun b11 => zgI M b11 20 0 fun g12 => (((5 : Int32) ≤ g12 → wp_X21_dead_L78 D post o (wp_X21_dead_L26 D post o f) k n x2 x4 x3 M) ∧ (¬ (5 : Int32) ≤ g12 → (wp_X0_has D (fun r13 M => ((¬ r13 = 0 → wp_X21_dead_L78 D post o (wp_X21_dead_L26 D post o f) k n x2 x4 x3 M) ∧ (r13 = 0 → wp_X21_dead_L79 D post o (wp_X21_dead_L26 D post o f) k n x2 x4 x3 ((1 : Int32) <<< (x4 &&& 31)) M))) x2 g12 M))))))) b7 x4 M))))))) b2 M))))
set_option maxHeartbeats 4000000 in
set_option maxRecDepth 100000 in
theorem wk_X21_dead_L26 {p : Program} {l : Launch} {e : Env} {s : State} {m : MethodId} {args : Array Value} {below : List Frame} {meth : Method} {c : Code} {D : zD} {post : Int32 → zM → Prop} {K N : Nat} {o : Nat} (hG : zGx p l s m args meth c cX21_dead 6 "PluralBranches$Plural" D (some .int) "dead" []) : ∀ (f : Nat), ∀ {H : Heap} {locs : List Loc} {cells slots : Nat} {ls : Array Slot} (k : Nat) (n : Nat) (x2 : Int32) (x3 : Int32) (x4 : Int32) (M : zM), cells + k ≤ K → slots + n ≤ N → zS D M H locs → lv_has ls 6 [(0, .ref o), (2, .int x2), (3, .int x3), (4, .int x4)] → wp_X21_dead_L26 D post o f k n x2 x3 x4 M → W p l e (rm_X21_dead K N) s m args below meth c H locs cells slots (vx_MQ below (zQ D zI post) (zX D (fun _ _ => False)) args s K N (zA D)) (F0 m 26 ls []) := by
  have hC := hG.1
  have hx := hC.x
  have hb := hC.b
  have hown := hC.o
  have hts := hC.ts
  have hlt := hG.2.2.2.2.2
  intro f
  induction f with
  | zero =>
    intro H locs cells slots ls k n x2 x3 x4 M hk hn hZ hl hw
    exact absurd hw (fun h => h)
  | succ f ih =>
    intro H locs cells slots ls k n x2 x3 x4 M hk hn hZ hl hw
    refine lv_iload hx hb dX21_dead_26 (lv_at hl 3 rfl) ?_
    refine lv_aload_n hx hb dX21_dead_28 rfl (lv_at hl 0 rfl) ?_
    obtain ⟨fs0, g19, hM0, hx0, hw⟩ := hw
    refine z_get hC hZ hM0 zc18 0 (by decide) q824 (u_same (hts _ q825)) hx0 dX21_dead_29 ?_
    obtain ⟨b20, hr0, hw⟩ := hw
    subst hr0
    obtain ⟨⟨ci0, fs0, hci0, hM0⟩, hw⟩ := hw
    obtain rfl : ci0 = 26 := List.mem_singleton.mp hci0
    refine z_callI hZ (vx_runV (As := []) (rest := [.int x4]) hC.fix (w_J3_size hlt hw) (cwV 0 hts (lw_V q1139 q464 q465 q74 q466) rfl rfl rfl ⟨rfl, dd_J3_size⟩ ⟨Nat.le_of_ble_eq_true rfl, Nat.le_of_ble_eq_true rfl⟩) (z_preV hC hZ hM0 zc26) rfl rfl hl.1 rfl (lv_room (Nat.le_trans (zrm1 rfl zrm0) (Nat.le_of_ble_eq_true rfl))) dX21_dead_32 ⟨(show cells + 0 ≤ K by omega), (show slots + 0 ≤ N by omega)⟩) (fun r21 M H locs hw1 hZ => ?_) (fun q M H locs ci fs E T9 N9 hw hZ hc1 hM1 hb1 => False.elim hw)
    replace hw := hw1
    clear hw1
    refine W.cs (cells' := cells) (slots' := slots) rfl rfl ?_
    refine lv_icmp_ge (tgt := 87) hx hb dX21_dead_35 (by decide) (fun c36 => ?_) (fun c36 => ?_)
    · replace hw := hw.1 c36
      refine lv_iload_n hx hb dX21_dead_87 rfl (lv_at hl 2 rfl) ?_
      exact z_iret hG hZ (by omega) (by omega) hw dX21_dead_88
    · replace hw := hw.2 c36
      refine lv_aload_n hx hb dX21_dead_38 rfl (lv_at hl 0 rfl) ?_
      obtain ⟨fs0, g24, hM0, hx0, hw⟩ := hw
      refine z_get hC hZ hM0 zc18 0 (by decide) q824 (u_same (hts _ q825)) hx0 dX21_dead_39 ?_
      refine lv_iload hx hb dX21_dead_42 (lv_at hl 3 rfl) ?_
      obtain ⟨b25, hr0, hw⟩ := hw
      subst hr0
      obtain ⟨⟨ci0, fs0, hci0, hM0⟩, hw⟩ := hw
      obtain rfl : ci0 = 26 := List.mem_singleton.mp hci0
      refine z_callR hZ (vx_runV (As := [.int x4]) (rest := []) hC.fix (w_J3_get hlt hw) (cwV 1 hts (lw_V q1140 q468 q469 q74 q470) rfl rfl rfl ⟨rfl, dd_J3_get⟩ ⟨Nat.le_of_ble_eq_true rfl, Nat.le_of_ble_eq_true rfl⟩) (z_preV hC hZ hM0 zc26) rfl rfl hl.1 rfl (lv_room (Nat.zero_le _)) dX21_dead_44 ⟨(show cells + 0 ≤ K by omega), (show slots + 0 ≤ N by omega)⟩) (fun r26 M H locs hw1 hZ => ?_) (fun q M H locs ci fs E T9 N9 hw hZ hc1 hM1 hb1 => False.elim hw)
      replace hw := hw1
      clear hw1
      refine W.cs (cells' := cells) (slots' := slots) rfl rfl ?_
      obtain ⟨hc0, hw⟩ := hw
      refine z_castO (r := r26) hC hZ hc0 (zal ⟨_, _, _, _, zc20, (Or.inl rfl)⟩ (za0)) q1141 dX21_dead_47 ?_
      obtain ⟨b29, hr0, hw⟩ := hw
      subst hr0
      obtain ⟨fs0, g30, hM0, hx0, hw⟩ := hw
      refine z_getN hC hZ hM0 zc20 0 (by decide) q971 (fun _ h9 => h9) hx0 dX21_dead_50 ?_
      refine lv_istore (i := 5) (lv' := [(5, .int g30), (0, .ref o), (2, .int x2), (3, .int x3), (4, .int x4)]) hx hb dX21_dead_53 hl (by decide) rfl (fun ls hl1 => ?_)
      replace hl := hl1
      clear hl1
      refine lv_iload_n hx hb dX21_dead_55 rfl (lv_at hl 3 rfl) ?_
      refine lv_iload hx hb dX21_dead_56 (lv_at hl 0 rfl) ?_
      refine lv_iconst (v := 5) hx hb dX21_dead_58 (by decide) ?_
      refine lv_icmp_ge (tgt := 78) hx hb dX21_dead_59 (by decide) (fun c35 => ?_) (fun c35 => ?_)
      · replace hw := hw.1 c35
        exact wk_X21_dead_L78 hG _ (fun {_ _ _ _ _} _z0 _z1 _z2 _z3 _z4 _z5 h1 h2 h3 h4 h5 => ih _z0 _z1 _z2 _z3 _z4 _z5 h1 h2 h3 h4 h5) _ _ _ _ _ _ hk hn hZ (lv_sub hl [1, 2, 4] rfl) hw
      · replace hw := hw.2 c35
        refine lv_iload_n hx hb dX21_dead_62 rfl (lv_at hl 2 rfl) ?_
        refine lv_iload hx hb dX21_dead_63 (lv_at hl 0 rfl) ?_
        refine z_callI hZ (vx_runSN (As := [.int x2, .int g30]) (rest := [.int x3]) hC.fix (w_X0_has hlt hw) ⟨va_cnB 2 hts (lw_meth q1134) rfl rfl rfl (hC.nw q1132 rfl) (hts _ q67) dd_X0_has ⟨Nat.le_of_ble_eq_true rfl, Nat.le_of_ble_eq_true rfl⟩, hts _ q1133, trivial⟩ (z_preS hC hZ) rfl rfl hl.1 rfl (lv_room (Nat.le_trans (zrm1 rfl zrm0) (Nat.le_of_ble_eq_true rfl))) dX21_dead_65 ⟨(show cells + 0 ≤ K by omega), (show slots + 0 ≤ N by omega)⟩) (fun r31 M H locs hw1 hZ => ?_) (fun q M H locs ci fs E T9 N9 hw hZ hc1 hM1 hb1 => False.elim hw)
        replace hw := hw1
        clear hw1
        refine W.cs (cells' := cells) (slots' := slots) rfl rfl ?_
        refine lv_if_ne (tgt := 78) hx hb dX21_dead_68 (by decide) (fun c34 => ?_) (fun c34 => ?_)
        · replace hw := hw.1 c34
          exact wk_X21_dead_L78 hG _ (fun {_ _ _ _ _} _z0 _z1 _z2 _z3 _z4 _z5 h1 h2 h3 h4 h5 => ih _z0 _z1 _z2 _z3 _z4 _z5 h1 h2 h3 h4 h5) _ _ _ _ _ _ hk hn hZ (lv_sub hl [1, 2, 4] rfl) hw
        · replace hw := hw.2 c34
          refine lv_iconst (v := 1) hx hb dX21_dead_71 (by decide) ?_
          refine lv_iload hx hb dX21_dead_72 (lv_at hl 4 rfl) ?_
          refine lv_ishl hx hb dX21_dead_74 ?_
          refine lv_goto (tgt := 79) hx hb dX21_dead_75 (by decide) ?_
          exact wk_X21_dead_L79 hG _ (fun {_ _ _ _ _} _z0 _z1 _z2 _z3 _z4 _z5 h1 h2 h3 h4 h5 => ih _z0 _z1 _z2 _z3 _z4 _z5 h1 h2 h3 h4 h5) _ _ _ _ _ _ _ hk hn hZ (lv_sub hl [1, 2, 4] rfl) hw
def wp_X21_dead_L22 (D : zD) (post : Int32 → zM → Prop) (o : Nat) (k : Nat) (n : Nat) (x2 : Int32) (y0 : Int32) (M : zM) : Prop :=
    (∃ f, wp_X21_dead_L26 D post o f k n x2 y0 (0 : Int32) M)
set_option maxHeartbeats 4000000 in
set_option maxRecDepth 100000 in
theorem wk_X21_dead_L22 {p : Program} {l : Launch} {e : Env} {s : State} {m : MethodId} {args : Array Value} {below : List Frame} {meth : Method} {c : Code} {D : zD} {post : Int32 → zM → Prop} {K N : Nat} {o : Nat} (hG : zGx p l s m args meth c cX21_dead 6 "PluralBranches$Plural" D (some .int) "dead" []) : ∀ {H : Heap} {locs : List Loc} {cells slots : Nat} {ls : Array Slot} (k : Nat) (n : Nat) (x2 : Int32) (y0 : Int32) (M : zM), cells + k ≤ K → slots + n ≤ N → zS D M H locs → lv_has ls 6 [(0, .ref o), (2, .int x2)] → wp_X21_dead_L22 D post o k n x2 y0 M → W p l e (rm_X21_dead K N) s m args below meth c H locs cells slots (vx_MQ below (zQ D zI post) (zX D (fun _ _ => False)) args s K N (zA D)) (F0 m 22 ls [.int y0]) := by
  have hC := hG.1
  have hx := hC.x
  have hb := hC.b
  have hown := hC.o
  have hts := hC.ts
  have hlt := hG.2.2.2.2.2
  intro H locs cells slots ls k n x2 y0 M hk hn hZ hl hw
  refine lv_istore_n (i := 3) (lv' := [(3, .int y0), (0, .ref o), (2, .int x2)]) hx hb dX21_dead_22 rfl hl (by decide) rfl (fun ls hl1 => ?_)
  replace hl := hl1
  clear hl1
  refine lv_iconst (v := 0) hx hb dX21_dead_23 (by decide) ?_
  refine lv_istore (i := 4) (lv' := [(4, .int (0 : Int32)), (3, .int y0), (0, .ref o), (2, .int x2)]) hx hb dX21_dead_24 hl (by decide) rfl (fun ls hl1 => ?_)
  replace hl := hl1
  clear hl1
  obtain ⟨f1, hw⟩ := hw
  exact wk_X21_dead_L26 hG f1 _ _ _ _ _ _ hk hn hZ (lv_sub hl [2, 3, 1, 0] rfl) hw
def wp_X21_dead (D : zD) (post : Int32 → zM → Prop) (k : Nat) (n : Nat) (o : Nat) (a0 : Option Nat) (M : zM) : Prop :=
    ((zd a0 fun b37 => (zis M b37 [2, 4, 5, 6] ∧ wp_X2_used D (fun r38 M => (wp_X0_has D (fun r41 M => ((r41 = 0 → ((∃ fs : List Value, M o = some (.inr (18, fs)) ∧ (∃ k45 n46, k45 ≤ k ∧ n46 ≤ n ∧ wp_X20_dead D (fun r44 M => wp_X21_dead_L22 D post o (k - k45) (n - n46) r38 r44 M) k45 n46 o (some b37) M)))) ∧ (¬ r41 = 0 → wp_X21_dead_L22 D post o k n r38 (0 : Int32) M))) r38 (5 : Int32) M)) b37 M)))
set_option maxHeartbeats 4000000 in
set_option maxRecDepth 100000 in
theorem w_X21_dead {l : Launch} {D : zD} {post : Int32 → zM → Prop} (hlt : l.stackTraces = false) {k : Nat} {n : Nat} {o : Nat} {a0 : Option Nat} {M : zM} (hw : wp_X21_dead D post k n o a0 M) : zMet l D yX21_dead (ws_ yX21_dead cX21_dead 6 (some .int)) (rm_X21_dead k n) k n [.ref o, va_rf a0] M zI post (fun _ _ => False) := by
  unfold wp_X21_dead at hw
  have hlv : lv_args 0 [.ref o, va_rf a0] = [(0, .ref o), (1, va_rf a0)] := (zargs1 rfl (zargs1 (zcat _) rfl))
  refine z_ofW hlt (by decide) (Nat.le_trans (zsl1 rfl (zsl1 (zcat _) (Nat.le_refl 0 : (lg_sl []).length ≤ 0))) (Nat.le_of_ble_eq_true rfl)) hlv ?_
  intro p e s m args below meth c ls hG hZ hl
  have hC := hG.1
  have hx := hC.x
  have hb := hC.b
  have hown := hC.o
  have hts := hC.ts
  have hlt := hG.2.2.2.2.2
  obtain ⟨cells, hce⟩ : ∃ z : Nat, z = 0 := ⟨0, rfl⟩
  obtain ⟨slots, hsl⟩ : ∃ z : Nat, z = 0 := ⟨0, rfl⟩
  refine W.cs (cells' := cells) (slots' := slots) hce.symm hsl.symm ?_
  have hk : cells + k ≤ k := by omega
  have hn : slots + n ≤ n := by omega
  clear hce hsl
  refine z_aload_n hC dX21_dead_0 rfl (lv_at hl 1 rfl) ?_
  obtain ⟨b48, hr0, hw⟩ := hw
  subst hr0
  obtain ⟨⟨ci0, fs0, hci0, hM0⟩, hw⟩ := hw
  obtain ⟨C0, T0, N0, ty0, hc0, hsel0⟩ : ∃ (C0 : String) (T0 : u_T) (N0 : Nat) (ty0 : Nat → FieldType), zCls ci0 C0 T0 N0 ty0 ∧ Cond.selects C0 ⟨"PluralBranches$Language", "used", "()I"⟩ yX2_used ∈ lw_all := (zal ⟨_, _, _, _, zc2, q496⟩ (zal ⟨_, _, _, _, zc4, q495⟩ (zal ⟨_, _, _, _, zc5, q494⟩ (zal ⟨_, _, _, _, zc6, q497⟩ (za0)))) : ∀ ci ∈ [2, 4, 5, 6], ∃ (C0 : String) (T0 : u_T) (N0 : Nat) (ty0 : Nat → FieldType), zCls ci C0 T0 N0 ty0 ∧ Cond.selects C0 ⟨"PluralBranches$Language", "used", "()I"⟩ yX2_used ∈ lw_all) ci0 hci0
  refine z_callI hZ (vx_runU (As := []) (rest := []) hC.fix (w_X2_used hlt hw) (va_cwU (owner := "PluralBranches$Language") (x := ⟨"PluralBranches$Language", "used", "()I"⟩) 0 hts (lw_app (zal q1123 (zal q493 (zal hsel0 (zal q492 (zal q70 za0))))) (lw_meth q498)) rfl rfl rfl rfl (by decide +kernel) ⟨Nat.le_of_ble_eq_true rfl, Nat.le_of_ble_eq_true rfl⟩) (z_preV hC hZ hM0 hc0) rfl rfl hl.1 rfl (lv_room (Nat.zero_le _)) dX21_dead_1 ⟨(show cells + 0 ≤ k by omega), (show slots + 0 ≤ n by omega)⟩) (fun r49 M H locs hw1 hZ => ?_) (fun q M H locs ci fs E T9 N9 hw hZ hc1 hM1 hb1 => False.elim hw)
  replace hw := hw1
  clear hw1
  refine W.cs (cells' := cells) (slots' := slots) rfl rfl ?_
  refine lv_istore_n (i := 2) (lv' := [(2, .int r49), (0, .ref o), (1, .ref b48)]) hx hb dX21_dead_4 rfl hl (by decide) rfl (fun ls hl1 => ?_)
  replace hl := hl1
  clear hl1
  refine lv_iload_n hx hb dX21_dead_5 rfl (lv_at hl 0 rfl) ?_
  refine lv_iconst (v := 5) hx hb dX21_dead_6 (by decide) ?_
  refine z_callI hZ (vx_runSN (As := [.int r49, .int (5 : Int32)]) (rest := []) hC.fix (w_X0_has hlt hw) ⟨va_cnB 2 hts (lw_meth q1134) rfl rfl rfl (hC.nw q1132 rfl) (hts _ q67) dd_X0_has ⟨Nat.le_of_ble_eq_true rfl, Nat.le_of_ble_eq_true rfl⟩, hts _ q1133, trivial⟩ (z_preS hC hZ) rfl rfl hl.1 rfl (lv_room (Nat.zero_le _)) dX21_dead_7 ⟨(show cells + 0 ≤ k by omega), (show slots + 0 ≤ n by omega)⟩) (fun r52 M H locs hw1 hZ => ?_) (fun q M H locs ci fs E T9 N9 hw hZ hc1 hM1 hb1 => False.elim hw)
  replace hw := hw1
  clear hw1
  refine W.cs (cells' := cells) (slots' := slots) rfl rfl ?_
  refine lv_if_eq (tgt := 17) hx hb dX21_dead_10 (by decide) (fun c58 => ?_) (fun c58 => ?_)
  · replace hw := hw.1 c58
    refine lv_aload_n hx hb dX21_dead_17 rfl (lv_at hl 1 rfl) ?_
    refine lv_aload_n hx hb dX21_dead_18 rfl (lv_at hl 2 rfl) ?_
    obtain ⟨fs0, hM0, hw⟩ := hw
    obtain ⟨k56, n57, hk1, hn1, hw⟩ := hw
    refine z_callI hZ (vx_runSU (As := [.ref b48]) (rest := []) (hC.vK.1 18 _ zc18.1).2 hC.fix (w_X20_dead hlt hw) (va_cwSU 1 hts (lw_app (zal q1135 (zal q1127 (zal q835 (zal q1126 (zal q99 za0))))) (lw_meth q1136)) rfl rfl rfl (by decide +kernel) ⟨Nat.le_of_ble_eq_true rfl, Nat.le_of_ble_eq_true rfl⟩) (z_preV hC hZ hM0 zc18) rfl rfl hl.1 rfl (lv_room (Nat.zero_le _)) dX21_dead_19 ⟨(show cells + k56 ≤ k by omega), (show slots + n57 ≤ n by omega)⟩) (fun r55 M H locs hw1 hZ => ?_) (fun q M H locs ci fs E T9 N9 hw hZ hc1 hM1 hb1 => False.elim hw)
    replace hw := hw1
    clear hw1
    have hk : cells + k56 + (k - k56) ≤ k := by omega
    have hn : slots + n57 + (n - n57) ≤ n := by omega
    generalize cells + k56 = cells at hk ⊢
    generalize slots + n57 = slots at hn ⊢
    clear hk1 hn1
    exact wk_X21_dead_L22 hG _ _ _ _ _ hk hn hZ (lv_sub hl [1, 0] rfl) hw
  · replace hw := hw.2 c58
    refine lv_iconst (v := 0) hx hb dX21_dead_13 (by decide) ?_
    refine lv_goto (tgt := 22) hx hb dX21_dead_14 (by decide) ?_
    exact wk_X21_dead_L22 hG _ _ _ _ _ hk hn hZ (lv_sub hl [1, 0] rfl) hw
abbrev rm_X0_lacks (K N : Nat) : Room := { frames := 11, cells := K, slots := N, locals := 292 }
def wp_X0_lacks_L25 (D : zD) (post : Int32 → zM → Prop) (o : Nat) (k : Nat) (n : Nat) (M : zM) : Prop :=
    post (-1 : Int32) M
set_option maxHeartbeats 4000000 in
set_option maxRecDepth 100000 in
theorem wk_X0_lacks_L25 {p : Program} {l : Launch} {e : Env} {s : State} {m : MethodId} {args : Array Value} {below : List Frame} {meth : Method} {c : Code} {D : zD} {post : Int32 → zM → Prop} {K N : Nat} {o : Nat} (hG : zGx p l s m args meth c cX0_lacks 6 "PluralBranches" D (some .int) "lacks" []) : ∀ {H : Heap} {locs : List Loc} {cells slots : Nat} {ls : Array Slot} (k : Nat) (n : Nat) (M : zM), cells + k ≤ K → slots + n ≤ N → zS D M H locs → lv_has ls 6 [] → wp_X0_lacks_L25 D post o k n M → W p l e (rm_X0_lacks K N) s m args below meth c H locs cells slots (vx_MQ below (zQ D zI post) (zX D (fun _ _ => False)) args s K N (zA D)) (F0 m 25 ls []) := by
  have hC := hG.1
  have hx := hC.x
  have hb := hC.b
  have hown := hC.o
  have hts := hC.ts
  have hlt := hG.2.2.2.2.2
  intro H locs cells slots ls k n M hk hn hZ hl hw
  refine lv_iconst (v := (-1)) hx hb dX0_lacks_25 (by decide) ?_
  exact z_iret hG hZ (by omega) (by omega) hw dX0_lacks_26
def wp_X0_lacks_L73 (D : zD) (post : Int32 → zM → Prop) (o : Nat) (k : Nat) (n : Nat) (y0 : Int32) (M : zM) : Prop :=
    post y0 M
set_option maxHeartbeats 4000000 in
set_option maxRecDepth 100000 in
theorem wk_X0_lacks_L73 {p : Program} {l : Launch} {e : Env} {s : State} {m : MethodId} {args : Array Value} {below : List Frame} {meth : Method} {c : Code} {D : zD} {post : Int32 → zM → Prop} {K N : Nat} {o : Nat} (hG : zGx p l s m args meth c cX0_lacks 6 "PluralBranches" D (some .int) "lacks" []) : ∀ {H : Heap} {locs : List Loc} {cells slots : Nat} {ls : Array Slot} (k : Nat) (n : Nat) (y0 : Int32) (M : zM), cells + k ≤ K → slots + n ≤ N → zS D M H locs → lv_has ls 6 [] → wp_X0_lacks_L73 D post o k n y0 M → W p l e (rm_X0_lacks K N) s m args below meth c H locs cells slots (vx_MQ below (zQ D zI post) (zX D (fun _ _ => False)) args s K N (zA D)) (F0 m 73 ls [.int y0]) := by
  have hC := hG.1
  have hx := hC.x
  have hb := hC.b
  have hown := hC.o
  have hts := hC.ts
  have hlt := hG.2.2.2.2.2
  intro H locs cells slots ls k n y0 M hk hn hZ hl hw
  exact z_iret hG hZ (by omega) (by omega) hw dX0_lacks_73
def wp_X0_lacks (D : zD) (post : Int32 → zM → Prop) (k : Nat) (n : Nat) (o : Nat) (a0 : Int32) (a1 : Int32) (a2 : Int32) (a3 : Int32) (M : zM) : Prop :=
    (wp_X0_isSlot D (fun r1 M => ((r1 = 0 → wp_X0_lacks_L25 D post o k n M) ∧ (¬ r1 = 0 → (wp_X0_isLanguage D (fun r4 M => ((r4 = 0 → wp_X0_lacks_L25 D post o k n M) ∧ (¬ r4 = 0 → (wp_X0_in D (fun r7 M => ((¬ r7 = 0 → ((zis M o [0] ∧ wp_X0_choiceOf D (fun r10 M => ((∀ b13 : Nat, r10 = some b13 → ((¬ a3 = 0 → (zgR M o 0 0 fun g14 => ((zd g14 fun b15 => zaR M b15 6 a1 fun v16 => (((zis M b13 [18] ∧ (∃ k18 n19, k18 ≤ k ∧ n19 ≤ n ∧ wp_X21_dead D (fun r17 M => wp_X0_lacks_L73 D post o (k - k18) (n - n19) r17 M) k18 n19 b13 v16 M)) ∨ (zis M b13 [19] ∧ (∃ k21 n22, k21 ≤ k ∧ n22 ≤ n ∧ wp_X20_dead D (fun r20 M => wp_X0_lacks_L73 D post o (k - k21) (n - n22) r20 M) k21 n22 b13 v16 M)))))))) ∧ (a3 = 0 → (zgR M o 0 0 fun g23 => ((zd g23 fun b24 => zaR M b24 6 a1 fun v25 => ((zis M b13 [18, 19] ∧ (∃ k27 n28, k27 ≤ k ∧ n28 ≤ n ∧ wp_X20_lacks D (fun r26 M => wp_X0_lacks_L73 D post o (k - k27) (n - n28) r26 M) k27 n28 b13 v25 M))))))))) ∧ (r10 = none → post (-2 : Int32) M))) o a0 a2 M))) ∧ (r7 = 0 → wp_X0_lacks_L25 D post o k n M))) (a3.toInt64) (0 : Int64) (1 : Int64) M)))) a1 M)))) a0 M)
set_option maxHeartbeats 4000000 in
set_option maxRecDepth 100000 in
theorem w_X0_lacks {l : Launch} {D : zD} {post : Int32 → zM → Prop} (hlt : l.stackTraces = false) {k : Nat} {n : Nat} {o : Nat} {a0 : Int32} {a1 : Int32} {a2 : Int32} {a3 : Int32} {M : zM} (hw : wp_X0_lacks D post k n o a0 a1 a2 a3 M) : zMet l D yX0_lacks (ws_ yX0_lacks cX0_lacks 6 (some .int)) (rm_X0_lacks k n) k n [.ref o, .int a0, .int a1, .int a2, .int a3] M zI post (fun _ _ => False) := by
  unfold wp_X0_lacks at hw
  have hlv : lv_args 0 [.ref o, .int a0, .int a1, .int a2, .int a3] = [(0, .ref o), (1, .int a0), (2, .int a1), (3, .int a2), (4, .int a3)] := (zargs1 rfl (zargs1 rfl (zargs1 rfl (zargs1 rfl (zargs1 rfl rfl)))))
  refine z_ofW hlt (by decide) (Nat.le_trans (zsl1 rfl (zsl1 rfl (zsl1 rfl (zsl1 rfl (zsl1 rfl (Nat.le_refl 0 : (lg_sl []).length ≤ 0)))))) (Nat.le_of_ble_eq_true rfl)) hlv ?_
  intro p e s m args below meth c ls hG hZ hl
  have hC := hG.1
  have hx := hC.x
  have hb := hC.b
  have hown := hC.o
  have hts := hC.ts
  have hlt := hG.2.2.2.2.2
  obtain ⟨cells, hce⟩ : ∃ z : Nat, z = 0 := ⟨0, rfl⟩
  obtain ⟨slots, hsl⟩ : ∃ z : Nat, z = 0 := ⟨0, rfl⟩
  refine W.cs (cells' := cells) (slots' := slots) hce.symm hsl.symm ?_
  have hk : cells + k ≤ k := by omega
  have hn : slots + n ≤ n := by omega
  clear hce hsl
  refine lv_iload_n hx hb dX0_lacks_0 rfl (lv_at hl 1 rfl) ?_
  refine z_callI hZ (vx_runS (As := [.int a0]) (rest := []) hC.fix (w_X0_isSlot hlt hw) (va_cwS 1 hts (lw_S q528 q529 q67 q530) rfl rfl rfl dd_X0_isSlot ⟨Nat.le_of_ble_eq_true rfl, Nat.le_of_ble_eq_true rfl⟩) (z_preS hC hZ) rfl rfl hl.1 rfl (lv_room (Nat.zero_le _)) dX0_lacks_1 ⟨(show cells + 0 ≤ k by omega), (show slots + 0 ≤ n by omega)⟩) (fun r33 M H locs hw1 hZ => ?_) (fun q M H locs ci fs E T9 N9 hw hZ hc1 hM1 hb1 => False.elim hw)
  replace hw := hw1
  clear hw1
  refine W.cs (cells' := cells) (slots' := slots) rfl rfl ?_
  refine lv_if_eq (tgt := 25) hx hb dX0_lacks_4 (by decide) (fun c64 => ?_) (fun c64 => ?_)
  · replace hw := hw.1 c64
    exact wk_X0_lacks_L25 hG _ _ _ hk hn hZ (lv_sub hl [] rfl) hw
  · replace hw := hw.2 c64
    refine lv_iload_n hx hb dX0_lacks_7 rfl (lv_at hl 2 rfl) ?_
    refine z_callI hZ (vx_runS (As := [.int a1]) (rest := []) hC.fix (w_X0_isLanguage hlt hw) (va_cwS 1 hts (lw_S q447 q448 q67 q449) rfl rfl rfl dd_X0_isLanguage ⟨Nat.le_of_ble_eq_true rfl, Nat.le_of_ble_eq_true rfl⟩) (z_preS hC hZ) rfl rfl hl.1 rfl (lv_room (Nat.zero_le _)) dX0_lacks_8 ⟨(show cells + 0 ≤ k by omega), (show slots + 0 ≤ n by omega)⟩) (fun r36 M H locs hw1 hZ => ?_) (fun q M H locs ci fs E T9 N9 hw hZ hc1 hM1 hb1 => False.elim hw)
    replace hw := hw1
    clear hw1
    refine W.cs (cells' := cells) (slots' := slots) rfl rfl ?_
    refine lv_if_eq (tgt := 25) hx hb dX0_lacks_11 (by decide) (fun c63 => ?_) (fun c63 => ?_)
    · replace hw := hw.1 c63
      exact wk_X0_lacks_L25 hG _ _ _ hk hn hZ (lv_sub hl [] rfl) hw
    · replace hw := hw.2 c63
      refine lv_iload hx hb dX0_lacks_14 (lv_at hl 4 rfl) ?_
      refine lv_i2l hx hb dX0_lacks_16 rfl ?_
      refine lv_lconst (v := 0) hx hb dX0_lacks_17 (by decide) ?_
      refine lv_lconst (v := 1) hx hb dX0_lacks_18 (by decide) ?_
      refine z_callI hZ (vx_runS (As := [.long (a3.toInt64), .long (0 : Int64), .long (1 : Int64)]) (rest := []) hC.fix (w_X0_in hlt hw) (va_cwS 3 hts (lw_S q434 q435 q67 q436) rfl rfl rfl dd_X0_in ⟨Nat.le_of_ble_eq_true rfl, Nat.le_of_ble_eq_true rfl⟩) (z_preS hC hZ) rfl rfl hl.1 rfl (lv_room (Nat.zero_le _)) dX0_lacks_19 ⟨(show cells + 0 ≤ k by omega), (show slots + 0 ≤ n by omega)⟩) (fun r39 M H locs hw1 hZ => ?_) (fun q M H locs ci fs E T9 N9 hw hZ hc1 hM1 hb1 => False.elim hw)
      replace hw := hw1
      clear hw1
      refine W.cs (cells' := cells) (slots' := slots) rfl rfl ?_
      refine lv_if_ne (tgt := 27) hx hb dX0_lacks_22 (by decide) (fun c62 => ?_) (fun c62 => ?_)
      · replace hw := hw.1 c62
        refine lv_aload_n hx hb dX0_lacks_27 rfl (lv_at hl 0 rfl) ?_
        refine lv_iload_n hx hb dX0_lacks_28 rfl (lv_at hl 1 rfl) ?_
        refine lv_iload_n hx hb dX0_lacks_29 rfl (lv_at hl 3 rfl) ?_
        obtain ⟨⟨ci0, fs0, hci0, hM0⟩, hw⟩ := hw
        obtain rfl : ci0 = 0 := List.mem_singleton.mp hci0
        refine z_callR hZ (vx_runV (As := [.int a0, .int a2]) (rest := []) hC.fix (w_X0_choiceOf hlt hw) (cwV 2 hts (lw_V q1092 q1094 qs22 q67 q1095) rfl rfl rfl ⟨rfl, dd_X0_choiceOf⟩ ⟨Nat.le_of_ble_eq_true rfl, Nat.le_of_ble_eq_true rfl⟩) (z_preV hC hZ hM0 zc0) rfl rfl hl.1 rfl (lv_room (Nat.zero_le _)) dX0_lacks_30 ⟨(show cells + 0 ≤ k by omega), (show slots + 0 ≤ n by omega)⟩) (fun r42 M H locs hw1 hZ => ?_) (fun q M H locs ci fs E T9 N9 hw hZ hc1 hM1 hb1 => False.elim hw)
        replace hw := hw1
        clear hw1
        refine W.cs (cells' := cells) (slots' := slots) rfl rfl ?_
        refine z_astore (i := 5) (lv' := [(5, va_rf r42), (0, .ref o), (1, .int a0), (2, .int a1), (3, .int a2), (4, .int a3)]) hC dX0_lacks_33 hl (by decide) rfl (fun ls hl1 => ?_)
        replace hl := hl1
        clear hl1
        refine z_aload hC dX0_lacks_35 (lv_at hl 0 rfl) ?_
        refine z_ifnonnull (tgt := 43) hC dX0_lacks_37 (by decide) (fun b45 hr0 => ?_) (fun hr0 => ?_)
        · replace hw := hw.1 b45 hr0
          subst hr0
          refine lv_iload hx hb dX0_lacks_43 (lv_at hl 5 rfl) ?_
          refine lv_if_ne (tgt := 62) hx hb dX0_lacks_45 (by decide) (fun c61 => ?_) (fun c61 => ?_)
          · replace hw := hw.1 c61
            refine lv_aload hx hb dX0_lacks_62 (lv_at hl 0 rfl) ?_
            refine lv_aload_n hx hb dX0_lacks_64 rfl (lv_at hl 1 rfl) ?_
            obtain ⟨fs0, g46, hM0, hx0, hw⟩ := hw
            refine z_get hC hZ hM0 zc0 0 (by decide) q399 (fun _ h9 => h9) hx0 dX0_lacks_65 ?_
            refine lv_iload_n hx hb dX0_lacks_68 rfl (lv_at hl 3 rfl) ?_
            obtain ⟨b47, hr0, hw⟩ := hw
            subst hr0
            obtain ⟨n0, f0, v48, hM0, hi0, hr0, hw⟩ := hw
            refine z_aald hC hZ hM0 (by decide) rfl hi0 hr0 dX0_lacks_69 ?_
            rcases hw with hw | hw
            · obtain ⟨⟨ci0, fs0, hci0, hM0⟩, hw⟩ := hw
              obtain ⟨k50, n51, hk1, hn1, hw⟩ := hw
              obtain ⟨C0, T0, N0, ty0, hc0, hsel0⟩ : ∃ (C0 : String) (T0 : u_T) (N0 : Nat) (ty0 : Nat → FieldType), zCls ci0 C0 T0 N0 ty0 ∧ Cond.selects C0 ⟨"PluralBranches$Choice", "dead", "(LPluralBranches$Language;)I"⟩ yX21_dead ∈ lw_all := (zal ⟨_, _, _, _, zc18, q1129⟩ (za0) : ∀ ci ∈ [18], ∃ (C0 : String) (T0 : u_T) (N0 : Nat) (ty0 : Nat → FieldType), zCls ci C0 T0 N0 ty0 ∧ Cond.selects C0 ⟨"PluralBranches$Choice", "dead", "(LPluralBranches$Language;)I"⟩ yX21_dead ∈ lw_all) ci0 hci0
              refine z_callI hZ (vx_runU (As := [va_rf v48]) (rest := []) hC.fix (w_X21_dead hlt hw) (va_cwO (owner := "PluralBranches$Choice") (x := ⟨"PluralBranches$Choice", "dead", "(LPluralBranches$Language;)I"⟩) 1 hts (lw_app (zal q1125 (zal q1127 (zal q1126 (zal hsel0 (zal q1130 (zal q100 za0)))))) (lw_meth q1131)) rfl rfl rfl q1136 (by decide +kernel) ⟨Nat.le_of_ble_eq_true rfl, Nat.le_of_ble_eq_true rfl⟩) (z_preV hC hZ hM0 hc0) rfl rfl hl.1 rfl (lv_room (Nat.zero_le _)) dX0_lacks_70 ⟨(show cells + k50 ≤ k by omega), (show slots + n51 ≤ n by omega)⟩) (fun r49 M H locs hw1 hZ => ?_) (fun q M H locs ci fs E T9 N9 hw hZ hc1 hM1 hb1 => False.elim hw)
              replace hw := hw1
              clear hw1
              have hk : cells + k50 + (k - k50) ≤ k := by omega
              have hn : slots + n51 + (n - n51) ≤ n := by omega
              generalize cells + k50 = cells at hk ⊢
              generalize slots + n51 = slots at hn ⊢
              clear hk1 hn1
              exact wk_X0_lacks_L73 hG _ _ _ _ hk hn hZ (lv_sub hl [] rfl) hw
            · obtain ⟨⟨ci0, fs0, hci0, hM0⟩, hw⟩ := hw
              obtain ⟨k53, n54, hk1, hn1, hw⟩ := hw
              obtain ⟨C0, T0, N0, ty0, hc0, hsel0⟩ : ∃ (C0 : String) (T0 : u_T) (N0 : Nat) (ty0 : Nat → FieldType), zCls ci0 C0 T0 N0 ty0 ∧ Cond.selects C0 ⟨"PluralBranches$Choice", "dead", "(LPluralBranches$Language;)I"⟩ yX20_dead ∈ lw_all := (zal ⟨_, _, _, _, zc19, q1128⟩ (za0) : ∀ ci ∈ [19], ∃ (C0 : String) (T0 : u_T) (N0 : Nat) (ty0 : Nat → FieldType), zCls ci C0 T0 N0 ty0 ∧ Cond.selects C0 ⟨"PluralBranches$Choice", "dead", "(LPluralBranches$Language;)I"⟩ yX20_dead ∈ lw_all) ci0 hci0
              refine z_callI hZ (vx_runU (As := [va_rf v48]) (rest := []) hC.fix (w_X20_dead hlt hw) (va_cwU (owner := "PluralBranches$Choice") (x := ⟨"PluralBranches$Choice", "dead", "(LPluralBranches$Language;)I"⟩) 1 hts (lw_app (zal q1125 (zal q1127 (zal hsel0 (zal q1126 (zal q99 za0))))) (lw_meth q1136)) rfl rfl rfl rfl (by decide +kernel) ⟨Nat.le_of_ble_eq_true rfl, Nat.le_of_ble_eq_true rfl⟩) (z_preV hC hZ hM0 hc0) rfl rfl hl.1 rfl (lv_room (Nat.zero_le _)) dX0_lacks_70 ⟨(show cells + k53 ≤ k by omega), (show slots + n54 ≤ n by omega)⟩) (fun r52 M H locs hw1 hZ => ?_) (fun q M H locs ci fs E T9 N9 hw hZ hc1 hM1 hb1 => False.elim hw)
              replace hw := hw1
              clear hw1
              have hk : cells + k53 + (k - k53) ≤ k := by omega
              have hn : slots + n54 + (n - n54) ≤ n := by omega
              generalize cells + k53 = cells at hk ⊢
              generalize slots + n54 = slots at hn ⊢
              clear hk1 hn1
              exact wk_X0_lacks_L73 hG _ _ _ _ hk hn hZ (lv_sub hl [] rfl) hw
          · replace hw := hw.2 c61
            refine lv_aload hx hb dX0_lacks_48 (lv_at hl 0 rfl) ?_
            refine lv_aload_n hx hb dX0_lacks_50 rfl (lv_at hl 1 rfl) ?_
            obtain ⟨fs0, g55, hM0, hx0, hw⟩ := hw
            refine z_get hC hZ hM0 zc0 0 (by decide) q399 (fun _ h9 => h9) hx0 dX0_lacks_51 ?_
            refine lv_iload_n hx hb dX0_lacks_54 rfl (lv_at hl 3 rfl) ?_
            obtain ⟨b56, hr0, hw⟩ := hw
            subst hr0
            obtain ⟨n0, f0, v57, hM0, hi0, hr0, hw⟩ := hw
            refine z_aald hC hZ hM0 (by decide) rfl hi0 hr0 dX0_lacks_55 ?_
            obtain ⟨⟨ci0, fs0, hci0, hM0⟩, hw⟩ := hw
            obtain ⟨k59, n60, hk1, hn1, hw⟩ := hw
            obtain ⟨C0, T0, N0, ty0, hc0, hsel0⟩ : ∃ (C0 : String) (T0 : u_T) (N0 : Nat) (ty0 : Nat → FieldType), zCls ci0 C0 T0 N0 ty0 ∧ Cond.selects C0 ⟨"PluralBranches$Choice", "lacks", "(LPluralBranches$Language;)I"⟩ yX20_lacks ∈ lw_all := (zal ⟨_, _, _, _, zc18, q1112⟩ (zal ⟨_, _, _, _, zc19, q1111⟩ (za0)) : ∀ ci ∈ [18, 19], ∃ (C0 : String) (T0 : u_T) (N0 : Nat) (ty0 : Nat → FieldType), zCls ci C0 T0 N0 ty0 ∧ Cond.selects C0 ⟨"PluralBranches$Choice", "lacks", "(LPluralBranches$Language;)I"⟩ yX20_lacks ∈ lw_all) ci0 hci0
            refine z_callI hZ (vx_runU (As := [va_rf v57]) (rest := []) hC.fix (w_X20_lacks hlt hw) (va_cwU (owner := "PluralBranches$Choice") (x := ⟨"PluralBranches$Choice", "lacks", "(LPluralBranches$Language;)I"⟩) 1 hts (lw_app (zal q1108 (zal q1110 (zal hsel0 (zal q1109 (zal q99 za0))))) (lw_meth q1113)) rfl rfl rfl rfl (by decide +kernel) ⟨Nat.le_of_ble_eq_true rfl, Nat.le_of_ble_eq_true rfl⟩) (z_preV hC hZ hM0 hc0) rfl rfl hl.1 rfl (lv_room (Nat.zero_le _)) dX0_lacks_56 ⟨(show cells + k59 ≤ k by omega), (show slots + n60 ≤ n by omega)⟩) (fun r58 M H locs hw1 hZ => ?_) (fun q M H locs ci fs E T9 N9 hw hZ hc1 hM1 hb1 => False.elim hw)
            replace hw := hw1
            clear hw1
            have hk : cells + k59 + (k - k59) ≤ k := by omega
            have hn : slots + n60 + (n - n60) ≤ n := by omega
            generalize cells + k59 = cells at hk ⊢
            generalize slots + n60 = slots at hn ⊢
            clear hk1 hn1
            refine lv_goto (tgt := 73) hx hb dX0_lacks_59 (by decide) ?_
            exact wk_X0_lacks_L73 hG _ _ _ _ hk hn hZ (lv_sub hl [] rfl) hw
        · replace hw := hw.2 hr0
          refine lv_bipush (v := (-2)) hx hb dX0_lacks_40 (by decide) ?_
          exact z_iret hG hZ (by omega) (by omega) hw dX0_lacks_42
      · replace hw := hw.2 c62
        exact wk_X0_lacks_L25 hG _ _ _ hk hn hZ (lv_sub hl [] rfl) hw
abbrev rm_X27_init : Room := { frames := 1, cells := 0, slots := 0, locals := 64 }
def wp_X27_init (D : zD) (post : Unit → zM → Prop) (o : Nat) (a0 : Option Nat) (M : zM) : Prop :=
    (zp D M o 24 0 (va_rf a0) fun M => post () M)
set_option maxHeartbeats 4000000 in
set_option maxRecDepth 100000 in
theorem w_X27_init {l : Launch} {D : zD} {post : Unit → zM → Prop} (hlt : l.stackTraces = false) {o : Nat} {a0 : Option Nat} {M : zM} (hw : wp_X27_init D post o a0 M) : zMet l D yX27_init (ws_ yX27_init cX27_init 2 (none)) rm_X27_init 0 0 [.ref o, va_rf a0] M zU post (fun _ _ => False) := by
  unfold wp_X27_init at hw
  have hlv : lv_args 0 [.ref o, va_rf a0] = [(0, .ref o), (1, va_rf a0)] := (zargs1 rfl (zargs1 (zcat _) rfl))
  refine z_ofW hlt (by decide) (Nat.le_trans (zsl1 rfl (zsl1 (zcat _) (Nat.le_refl 0 : (lg_sl []).length ≤ 0))) (Nat.le_of_ble_eq_true rfl)) hlv ?_
  intro p e s m args below meth c ls hG hZ hl
  have hC := hG.1
  have hx := hC.x
  have hb := hC.b
  have hown := hC.o
  have hts := hC.ts
  have hlt := hG.2.2.2.2.2
  obtain ⟨cells, hce⟩ : ∃ z : Nat, z = 0 := ⟨0, rfl⟩
  obtain ⟨slots, hsl⟩ : ∃ z : Nat, z = 0 := ⟨0, rfl⟩
  refine W.cs (cells' := cells) (slots' := slots) hce.symm hsl.symm ?_
  have hk : cells ≤ 0 := Nat.le_of_eq hce
  have hn : slots ≤ 0 := Nat.le_of_eq hsl
  clear hce hsl
  refine lv_aload_n hx hb dX27_init_0 rfl (lv_at hl 0 rfl) ?_
  refine W.objInit hx hb hown (hts _ q1211) (hts _ q124) (hts _ q125) rfl (by rw [hC.ml]; exact hl.1) rfl dX27_init_1 (Nat.le_of_ble_eq_true rfl) (Nat.le_of_ble_eq_true rfl) ?_
  refine W.eq (g2 := F0 m 4 ls []) rfl ?_
  refine lv_aload_n hx hb dX27_init_4 rfl (lv_at hl 0 rfl) ?_
  refine z_aload_n hC dX27_init_5 rfl (lv_at hl 1 rfl) ?_
  obtain ⟨fs0, hM0, hb0, hk0, hw⟩ := hw
  refine z_putF hC hZ hM0 hb0 zc24 0 (by decide) q1212 (fun _ h9 => h9) (by decide) hG.2.2.2.1 rfl zrf_narA zrf_fitA hk0 dX27_init_6 (fun H locs hZ => ?_)
  generalize zu M _ _ = M at hw hZ
  exact z_vret hG hZ hk hn hw dX27_init_9
abbrev rm_X27_with (K N : Nat) : Room := { frames := 2, cells := K, slots := N, locals := 85 }
def wp_X27_with (D : zD) (post : Option Nat → zM → Prop) (k : Nat) (n : Nat) (o : Nat) (a0 : Int32) (M : zM) : Prop :=
    (zgR M o 24 0 fun g1 => ((zd g1 fun b2 => zlen M b2 fun n3 => (znewA D M 0 (n3 + (1 : Int32)) k n fun b4 M => (zgR M o 24 0 fun g5 => (zgR M o 24 0 fun g6 => ((zd g6 fun b7 => zlen M b7 fun n8 => ((zd g5 fun b9 => (zcp0 D M b9 b4 (0 : Int32) (0 : Int32) n8 (fun M => (zgR M o 24 0 fun g10 => ((zd g10 fun b11 => zlen M b11 fun n12 => (zsI D M b4 n12 a0 fun M => (znew D M 24 1 [.null] (k - 1) (n - (n3 + (1 : Int32)).toNatClampNeg) fun b13 M => (wp_X27_init D (fun _ M => post (some b13) M) b13 (some b4) M))))))))))))))))))
set_option maxHeartbeats 4000000 in
set_option maxRecDepth 100000 in
theorem w_X27_with {l : Launch} {D : zD} {post : Option Nat → zM → Prop} (hlt : l.stackTraces = false) {k : Nat} {n : Nat} {o : Nat} {a0 : Int32} {M : zM} (hw : wp_X27_with D post k n o a0 M) : zMet l D yX27_with (ws_ yX27_with cX27_with 3 (some (.object "PluralBranches$Listed"))) (rm_X27_with k n) k n [.ref o, .int a0] M zR post (fun _ _ => False) := by
  unfold wp_X27_with at hw
  have hlv : lv_args 0 [.ref o, .int a0] = [(0, .ref o), (1, .int a0)] := (zargs1 rfl (zargs1 rfl rfl))
  refine z_ofW hlt (by decide) (Nat.le_trans (zsl1 rfl (zsl1 rfl (Nat.le_refl 0 : (lg_sl []).length ≤ 0))) (Nat.le_of_ble_eq_true rfl)) hlv ?_
  intro p e s m args below meth c ls hG hZ hl
  have hC := hG.1
  have hx := hC.x
  have hb := hC.b
  have hown := hC.o
  have hts := hC.ts
  have hlt := hG.2.2.2.2.2
  obtain ⟨cells, hce⟩ : ∃ z : Nat, z = 0 := ⟨0, rfl⟩
  obtain ⟨slots, hsl⟩ : ∃ z : Nat, z = 0 := ⟨0, rfl⟩
  refine W.cs (cells' := cells) (slots' := slots) hce.symm hsl.symm ?_
  have hk : cells + k ≤ k := by omega
  have hn : slots + n ≤ n := by omega
  clear hce hsl
  refine lv_aload_n hx hb dX27_with_0 rfl (lv_at hl 0 rfl) ?_
  obtain ⟨fs0, g17, hM0, hx0, hw⟩ := hw
  refine z_get hC hZ hM0 zc24 0 (by decide) q1212 (fun _ h9 => h9) hx0 dX27_with_1 ?_
  obtain ⟨b18, hr0, hw⟩ := hw
  subst hr0
  obtain ⟨y0, hM0, hy0, hw⟩ := hw
  refine z_alen hC hZ hM0 hy0 dX27_with_4 ?_
  generalize Int32.ofNat y0.2.1 = n19 at hw ⊢
  refine lv_iconst (v := 1) hx hb dX27_with_5 (by decide) ?_
  refine lv_iadd hx hb dX27_with_6 ?_
  obtain ⟨hx1, hx2, hk1, hn1, hw⟩ := hw
  refine z_newa (k := 0) (a0 := zna 0 (n19 + (1 : Int32)).toNatClampNeg) (atype := .int) hC hZ q336 rfl (by decide) (fun _ => rfl) hx1 rfl (z_bytes hx2 (by decide)) (show cells + 1 ≤ k by omega) (show slots + (n19 + (1 : Int32)).toNatClampNeg ≤ n by omega) dX27_with_7 (fun b20 H hq0 hq1 hZ => ?_)
  replace hw := hw b20 hq0 hq1
  replace hZ : zS D (zu M b20 (some (.inl (0, zna 0 (n19 + (1 : Int32)).toNatClampNeg)))) _ _ := hZ
  refine W.cs (cells' := cells + 1) (slots' := slots + (n19 + (1 : Int32)).toNatClampNeg) rfl rfl ?_
  generalize zu M _ _ = M at hw hZ
  have hk : cells + 1 + (k - 1) ≤ k := by omega
  have hn : slots + (n19 + (1 : Int32)).toNatClampNeg + (n - (n19 + (1 : Int32)).toNatClampNeg) ≤ n := by omega
  generalize cells + 1 = cells at hk ⊢
  generalize slots + (n19 + (1 : Int32)).toNatClampNeg = slots at hn ⊢
  clear hk1 hn1 hx1 hx2
  refine lv_astore_n (i := 2) (lv' := [(2, .ref b20), (0, .ref o), (1, .int a0)]) hx hb dX27_with_9 rfl hl (by decide) rfl (fun ls hl1 => ?_)
  replace hl := hl1
  clear hl1
  refine lv_aload_n hx hb dX27_with_10 rfl (lv_at hl 1 rfl) ?_
  obtain ⟨fs0, g21, hM0, hx0, hw⟩ := hw
  refine z_get hC hZ hM0 zc24 0 (by decide) q1212 (fun _ h9 => h9) hx0 dX27_with_11 ?_
  refine lv_iconst (v := 0) hx hb dX27_with_14 (by decide) ?_
  refine lv_aload_n hx hb dX27_with_15 rfl (lv_at hl 0 rfl) ?_
  refine lv_iconst (v := 0) hx hb dX27_with_16 (by decide) ?_
  refine lv_aload_n hx hb dX27_with_17 rfl (lv_at hl 1 rfl) ?_
  obtain ⟨fs0, g22, hM0, hx0, hw⟩ := hw
  refine z_get hC hZ hM0 zc24 0 (by decide) q1212 (fun _ h9 => h9) hx0 dX27_with_18 ?_
  obtain ⟨b23, hr0, hw⟩ := hw
  subst hr0
  obtain ⟨y0, hM0, hy0, hw⟩ := hw
  refine z_alen hC hZ hM0 hy0 dX27_with_21 ?_
  generalize Int32.ofNat y0.2.1 = n24 at hw ⊢
  obtain ⟨b25, hr0, hw⟩ := hw
  subst hr0
  refine z_copy0 hC hZ hl.1 hw q1221 q284 q283 q77 (Nat.le_of_ble_eq_true rfl) (z_nat (Nat.le_trans zrm0 (Nat.le_of_ble_eq_true rfl)) (Nat.le_of_ble_eq_true rfl)) dX27_with_22 (fun M H locs hw1 hZ => ?_)
  replace hw := hw1
  clear hw1
  refine lv_aload_n hx hb dX27_with_25 rfl (lv_at hl 0 rfl) ?_
  refine lv_aload_n hx hb dX27_with_26 rfl (lv_at hl 1 rfl) ?_
  obtain ⟨fs0, g26, hM0, hx0, hw⟩ := hw
  refine z_get hC hZ hM0 zc24 0 (by decide) q1212 (fun _ h9 => h9) hx0 dX27_with_27 ?_
  obtain ⟨b27, hr0, hw⟩ := hw
  subst hr0
  obtain ⟨y0, hM0, hy0, hw⟩ := hw
  refine z_alen hC hZ hM0 hy0 dX27_with_30 ?_
  generalize Int32.ofNat y0.2.1 = n28 at hw ⊢
  refine lv_iload_n hx hb dX27_with_31 rfl (lv_at hl 2 rfl) ?_
  obtain ⟨n0, f0, hM0, hb0, hi0, hw⟩ := hw
  refine z_iast hC hZ hM0 hb0 hi0 dX27_with_32 (fun H locs hZ => ?_)
  generalize zu M _ _ = M at hw hZ
  obtain ⟨hk1, hn1, hw⟩ := hw
  refine z_new (fs := [.null]) hC hZ zc24 q1222 q1207 q111 (zdefs (N := 1) (ty := tyX27) (fs := [.null]) (by decide)) (show cells + 1 ≤ k by omega) (show slots + 1 ≤ n by omega) dX27_with_33 (fun b29 H hq0 hq1 hZ => ?_)
  replace hw := hw b29 hq0 hq1
  generalize zu M _ _ = M at hw hZ
  have hk : cells + 1 + ((k - 1) - 1) ≤ k := by omega
  have hn : slots + 1 + ((n - (n19 + (1 : Int32)).toNatClampNeg) - 1) ≤ n := by omega
  generalize cells + 1 = cells at hk ⊢
  generalize slots + 1 = slots at hn ⊢
  clear hk1 hn1
  refine lv_dup hx hb dX27_with_36 rfl ?_
  refine lv_aload_n hx hb dX27_with_37 rfl (lv_at hl 0 rfl) ?_
  refine z_callU hZ (vx_runI (As := [.ref b20]) (rest := [.ref b29]) hC.fix (w_X27_init hlt hw) (cwI 1 hts (lw_meth q1210) rfl rfl rfl (hts _ q111) (hts _ q1223) (hts _ q1209) rfl dd_X27_init ⟨Nat.le_of_ble_eq_true rfl, Nat.le_of_ble_eq_true rfl⟩) (z_preS hC hZ) rfl rfl hl.1 rfl (lv_room (Nat.le_trans (zrm1 rfl zrm0) (Nat.le_of_ble_eq_true rfl))) dX27_with_38 ⟨(show cells + 0 ≤ k by omega), (show slots + 0 ≤ n by omega)⟩) (fun r30 M H locs hw1 hZ => ?_) (fun q M H locs ci fs E T9 N9 hw hZ hc1 hM1 hb1 => False.elim hw)
  replace hw := hw1
  clear hw1
  refine W.cs (cells' := cells) (slots' := slots) rfl rfl ?_
  exact z_aret (r := (some b29)) hG (Or.inl ⟨_, rfl⟩) hZ (by omega) (by omega) hw dX27_with_41
abbrev rm_X0_listed (K N : Nat) : Room := { frames := 3, cells := K, slots := N, locals := 107 }
def wp_X0_listed_L13 (D : zD) (post : Option Nat → zM → Prop) : Nat → Nat → Nat → Int32 → Option Nat → Option Nat → Int32 → zM → Prop
  | 0 => fun _ _ _ _ _ _ _ => False
  | f + 1 => fun k n x0 x1 x2 x3 M =>
    ((x0 ≤ x3 → post x2 M) ∧ (¬ x0 ≤ x3 → ((zd x1 fun b1 => zaI M b1 0 x3 fun v2 => ((zd x2 fun b3 => (zis M b3 [24] ∧ (∃ k5 n6, k5 ≤ k ∧ n6 ≤ n ∧ wp_X27_with D (fun r4 M => wp_X0_listed_L13 D post f (k - k5) (n - n6) x0 (some b1) r4 (x3 + 1) M) k5 n6 b3 v2 M))))))))
set_option maxHeartbeats 4000000 in
set_option maxRecDepth 100000 in
theorem wk_X0_listed_L13 {p : Program} {l : Launch} {e : Env} {s : State} {m : MethodId} {args : Array Value} {below : List Frame} {meth : Method} {c : Code} {D : zD} {post : Option Nat → zM → Prop} {K N : Nat} (hG : zGx p l s m args meth c cX0_listed 4 "PluralBranches" D (some (.object "PluralBranches$Listed")) "listed" []) : ∀ (f : Nat), ∀ {H : Heap} {locs : List Loc} {cells slots : Nat} {ls : Array Slot} (k : Nat) (n : Nat) (x0 : Int32) (x1 : Option Nat) (x2 : Option Nat) (x3 : Int32) (M : zM), cells + k ≤ K → slots + n ≤ N → zS D M H locs → lv_has ls 4 [(0, .int x0), (1, va_rf x1), (2, va_rf x2), (3, .int x3)] → wp_X0_listed_L13 D post f k n x0 x1 x2 x3 M → W p l e (rm_X0_listed K N) s m args below meth c H locs cells slots (vx_MQ below (zQ D zR post) (zX D (fun _ _ => False)) args s K N (zA D)) (F0 m 13 ls []) := by
  have hC := hG.1
  have hx := hC.x
  have hb := hC.b
  have hown := hC.o
  have hts := hC.ts
  have hlt := hG.2.2.2.2.2
  intro f
  induction f with
  | zero =>
    intro H locs cells slots ls k n x0 x1 x2 x3 M hk hn hZ hl hw
    exact absurd hw (fun h => h)
  | succ f ih =>
    intro H locs cells slots ls k n x0 x1 x2 x3 M hk hn hZ hl hw
    refine lv_iload_n hx hb dX0_listed_13 rfl (lv_at hl 3 rfl) ?_
    refine lv_iload_n hx hb dX0_listed_14 rfl (lv_at hl 0 rfl) ?_
    refine lv_icmp_ge (tgt := 32) hx hb dX0_listed_15 (by decide) (fun c14 => ?_) (fun c14 => ?_)
    · replace hw := hw.1 c14
      refine z_aload_n hC dX0_listed_32 rfl (lv_at hl 2 rfl) ?_
      exact z_aret (r := x2) hG (Or.inl ⟨_, rfl⟩) hZ (by omega) (by omega) hw dX0_listed_33
    · replace hw := hw.2 c14
      refine z_aload_n hC dX0_listed_18 rfl (lv_at hl 2 rfl) ?_
      refine z_aload_n hC dX0_listed_19 rfl (lv_at hl 1 rfl) ?_
      refine lv_iload_n hx hb dX0_listed_20 rfl (lv_at hl 3 rfl) ?_
      obtain ⟨b8, hr0, hw⟩ := hw
      subst hr0
      obtain ⟨n0, f0, hM0, hi0, hw⟩ := hw
      refine z_iald hC hZ hM0 hi0 dX0_listed_21 ?_
      generalize f0 _ = v9 at hw ⊢
      obtain ⟨b10, hr0, hw⟩ := hw
      subst hr0
      obtain ⟨⟨ci0, fs0, hci0, hM0⟩, hw⟩ := hw
      obtain ⟨k12, n13, hk1, hn1, hw⟩ := hw
      obtain rfl : ci0 = 24 := List.mem_singleton.mp hci0
      refine z_callR hZ (vx_runV (As := [.int v9]) (rest := []) hC.fix (w_X27_with hlt hw) (cwV 1 hts (lw_V q1217 q1218 q1219 q111 q1220) rfl rfl rfl ⟨rfl, dd_X27_with⟩ ⟨Nat.le_of_ble_eq_true rfl, Nat.le_of_ble_eq_true rfl⟩) (z_preV hC hZ hM0 zc24) rfl rfl hl.1 rfl (lv_room (Nat.zero_le _)) dX0_listed_22 ⟨(show cells + k12 ≤ K by omega), (show slots + n13 ≤ N by omega)⟩) (fun r11 M H locs hw1 hZ => ?_) (fun q M H locs ci fs E T9 N9 hw hZ hc1 hM1 hb1 => False.elim hw)
      replace hw := hw1
      clear hw1
      have hk : cells + k12 + (k - k12) ≤ K := by omega
      have hn : slots + n13 + (n - n13) ≤ N := by omega
      generalize cells + k12 = cells at hk ⊢
      generalize slots + n13 = slots at hn ⊢
      clear hk1 hn1
      refine z_astore_n (i := 2) (lv' := [(2, va_rf r11), (0, .int x0), (1, .ref b8), (3, .int x3)]) hC dX0_listed_25 rfl hl (by decide) rfl (fun ls hl1 => ?_)
      replace hl := hl1
      clear hl1
      refine lv_iinc (v := (x3 + 1)) (lv' := [(3, .int (x3 + 1)), (2, va_rf r11), (0, .int x0), (1, .ref b8)]) hx hb dX0_listed_26 hl (k := 3) rfl rfl (by decide) (zfc rfl (zfk (zfa rfl) (zfk rfl (zfk rfl (zfd rfl rfl))))) (fun ls hl1 => ?_)
      replace hl := hl1
      clear hl1
      refine lv_goto (tgt := 13) hx hb dX0_listed_29 (by decide) ?_
      exact ih _ _ _ _ _ _ _ hk hn hZ (lv_sub hl [2, 3, 1, 0] rfl) hw
def wp_X0_listed (D : zD) (post : Option Nat → zM → Prop) (k : Nat) (n : Nat) (a0 : Int32) (a1 : Option Nat) (M : zM) : Prop :=
    (znew D M 24 1 [.null] k n fun b15 M => (znewA D M 0 (0 : Int32) (k - 1) (n - 1) fun b16 M => (wp_X27_init D (fun _ M => (∃ f, wp_X0_listed_L13 D post f ((k - 1) - 1) ((n - 1) - (0 : Int32).toNatClampNeg) a0 a1 (some b15) (0 : Int32) M)) b15 (some b16) M)))
set_option maxHeartbeats 4000000 in
set_option maxRecDepth 100000 in
theorem w_X0_listed {l : Launch} {D : zD} {post : Option Nat → zM → Prop} (hlt : l.stackTraces = false) {k : Nat} {n : Nat} {a0 : Int32} {a1 : Option Nat} {M : zM} (hw : wp_X0_listed D post k n a0 a1 M) : zMet l D yX0_listed (ws_ yX0_listed cX0_listed 4 (some (.object "PluralBranches$Listed"))) (rm_X0_listed k n) k n [.int a0, va_rf a1] M zR post (fun _ _ => False) := by
  unfold wp_X0_listed at hw
  have hlv : lv_args 0 [.int a0, va_rf a1] = [(0, .int a0), (1, va_rf a1)] := (zargs1 rfl (zargs1 (zcat _) rfl))
  refine z_ofW hlt (by decide) (Nat.le_trans (zsl1 rfl (zsl1 (zcat _) (Nat.le_refl 0 : (lg_sl []).length ≤ 0))) (Nat.le_of_ble_eq_true rfl)) hlv ?_
  intro p e s m args below meth c ls hG hZ hl
  have hC := hG.1
  have hx := hC.x
  have hb := hC.b
  have hown := hC.o
  have hts := hC.ts
  have hlt := hG.2.2.2.2.2
  obtain ⟨cells, hce⟩ : ∃ z : Nat, z = 0 := ⟨0, rfl⟩
  obtain ⟨slots, hsl⟩ : ∃ z : Nat, z = 0 := ⟨0, rfl⟩
  refine W.cs (cells' := cells) (slots' := slots) hce.symm hsl.symm ?_
  have hk : cells + k ≤ k := by omega
  have hn : slots + n ≤ n := by omega
  clear hce hsl
  obtain ⟨hk1, hn1, hw⟩ := hw
  refine z_new (fs := [.null]) hC hZ zc24 q1206 q1207 q111 (zdefs (N := 1) (ty := tyX27) (fs := [.null]) (by decide)) (show cells + 1 ≤ k by omega) (show slots + 1 ≤ n by omega) dX0_listed_0 (fun b20 H hq0 hq1 hZ => ?_)
  replace hw := hw b20 hq0 hq1
  generalize zu M _ _ = M at hw hZ
  have hk : cells + 1 + (k - 1) ≤ k := by omega
  have hn : slots + 1 + (n - 1) ≤ n := by omega
  generalize cells + 1 = cells at hk ⊢
  generalize slots + 1 = slots at hn ⊢
  clear hk1 hn1
  refine lv_dup hx hb dX0_listed_3 rfl ?_
  refine lv_iconst (v := 0) hx hb dX0_listed_4 (by decide) ?_
  obtain ⟨hx1, hx2, hk1, hn1, hw⟩ := hw
  refine z_newa (k := 0) (a0 := zna 0 (0 : Int32).toNatClampNeg) (atype := .int) hC hZ q336 rfl (by decide) (fun _ => rfl) hx1 rfl (z_bytes hx2 (by decide)) (show cells + 1 ≤ k by omega) (show slots + (0 : Int32).toNatClampNeg ≤ n by omega) dX0_listed_5 (fun b21 H hq0 hq1 hZ => ?_)
  replace hw := hw b21 hq0 hq1
  replace hZ : zS D (zu M b21 (some (.inl (0, zna 0 (0 : Int32).toNatClampNeg)))) _ _ := hZ
  refine W.cs (cells' := cells + 1) (slots' := slots + (0 : Int32).toNatClampNeg) rfl rfl ?_
  generalize zu M _ _ = M at hw hZ
  have hk : cells + 1 + ((k - 1) - 1) ≤ k := by omega
  have hn : slots + (0 : Int32).toNatClampNeg + ((n - 1) - (0 : Int32).toNatClampNeg) ≤ n := by omega
  generalize cells + 1 = cells at hk ⊢
  generalize slots + (0 : Int32).toNatClampNeg = slots at hn ⊢
  clear hk1 hn1 hx1 hx2
  refine z_callU hZ (vx_runI (As := [.ref b21]) (rest := [.ref b20]) hC.fix (w_X27_init hlt hw) (cwI 1 hts (lw_meth q1210) rfl rfl rfl (hts _ q111) (hts _ q1208) (hts _ q1209) rfl dd_X27_init ⟨Nat.le_of_ble_eq_true rfl, Nat.le_of_ble_eq_true rfl⟩) (z_preS hC hZ) rfl rfl hl.1 rfl (lv_room (Nat.le_trans (zrm1 rfl zrm0) (Nat.le_of_ble_eq_true rfl))) dX0_listed_7 ⟨(show cells + 0 ≤ k by omega), (show slots + 0 ≤ n by omega)⟩) (fun r22 M H locs hw1 hZ => ?_) (fun q M H locs ci fs E T9 N9 hw hZ hc1 hM1 hb1 => False.elim hw)
  replace hw := hw1
  clear hw1
  refine W.cs (cells' := cells) (slots' := slots) rfl rfl ?_
  refine lv_astore_n (i := 2) (lv' := [(2, .ref b20), (0, .int a0), (1, va_rf a1)]) hx hb dX0_listed_10 rfl hl (by decide) (zfc rfl (zfk rfl (zfk (zfa rfl) rfl))) (fun ls hl1 => ?_)
  replace hl := hl1
  clear hl1
  refine lv_iconst (v := 0) hx hb dX0_listed_11 (by decide) ?_
  refine lv_istore_n (i := 3) (lv' := [(3, .int (0 : Int32)), (2, .ref b20), (0, .int a0), (1, va_rf a1)]) hx hb dX0_listed_12 rfl hl (by decide) rfl (fun ls hl1 => ?_)
  replace hl := hl1
  clear hl1
  obtain ⟨f1, hw⟩ := hw
  exact wk_X0_listed_L13 hG f1 _ _ _ _ _ _ _ hk hn hZ (lv_sub hl [2, 3, 1, 0] rfl) hw
abbrev rm_X0_list (K N : Nat) : Room := { frames := 4, cells := K, slots := N, locals := 130 }
def wp_X0_list_L19 (D : zD) (post : Int32 → zM → Prop) (o : Nat) (k : Nat) (n : Nat) (M : zM) : Prop :=
    post (-1 : Int32) M
set_option maxHeartbeats 4000000 in
set_option maxRecDepth 100000 in
theorem wk_X0_list_L19 {p : Program} {l : Launch} {e : Env} {s : State} {m : MethodId} {args : Array Value} {below : List Frame} {meth : Method} {c : Code} {D : zD} {post : Int32 → zM → Prop} {K N : Nat} {o : Nat} (hG : zGx p l s m args meth c cX0_list 6 "PluralBranches" D (some .int) "list" []) : ∀ {H : Heap} {locs : List Loc} {cells slots : Nat} {ls : Array Slot} (k : Nat) (n : Nat) (M : zM), cells + k ≤ K → slots + n ≤ N → zS D M H locs → lv_has ls 6 [] → wp_X0_list_L19 D post o k n M → W p l e (rm_X0_list K N) s m args below meth c H locs cells slots (vx_MQ below (zQ D zI post) (zX D (fun _ _ => False)) args s K N (zA D)) (F0 m 19 ls []) := by
  have hC := hG.1
  have hx := hC.x
  have hb := hC.b
  have hown := hC.o
  have hts := hC.ts
  have hlt := hG.2.2.2.2.2
  intro H locs cells slots ls k n M hk hn hZ hl hw
  refine lv_iconst (v := (-1)) hx hb dX0_list_19 (by decide) ?_
  exact z_iret hG hZ (by omega) (by omega) hw dX0_list_20
def wp_X0_list (D : zD) (post : Int32 → zM → Prop) (k : Nat) (n : Nat) (o : Nat) (a0 : Int32) (a1 : Int32) (a2 : Int32) (a3 : Int32) (a4 : Int32) (M : zM) : Prop :=
    (wp_X0_isArgument D (fun r1 M => ((r1 = 0 → wp_X0_list_L19 D post o k n M) ∧ (¬ r1 = 0 → (wp_X0_in D (fun r4 M => ((¬ r4 = 0 → (zgR M o 0 6 fun g7 => (znewA D M 0 (3 : Int32) k n fun b8 M => (zsI D M b8 (0 : Int32) a2 fun M => (zsI D M b8 (1 : Int32) a3 fun M => (zsI D M b8 (2 : Int32) a4 fun M => ((∃ k10 n11, k10 ≤ (k - 1) ∧ n11 ≤ (n - (3 : Int32).toNatClampNeg) ∧ wp_X0_listed D (fun r9 M => ((zd g7 fun b12 => zsR D M b12 9 a0 r9 fun M => post a1 M))) k10 n11 a1 (some b8) M)))))))) ∧ (r4 = 0 → wp_X0_list_L19 D post o k n M))) (a1.toInt64) (0 : Int64) (3 : Int64) M)))) a0 M)
set_option maxHeartbeats 4000000 in
set_option maxRecDepth 100000 in
theorem w_X0_list {l : Launch} {D : zD} {post : Int32 → zM → Prop} (hlt : l.stackTraces = false) {k : Nat} {n : Nat} {o : Nat} {a0 : Int32} {a1 : Int32} {a2 : Int32} {a3 : Int32} {a4 : Int32} {M : zM} (hw : wp_X0_list D post k n o a0 a1 a2 a3 a4 M) : zMet l D yX0_list (ws_ yX0_list cX0_list 6 (some .int)) (rm_X0_list k n) k n [.ref o, .int a0, .int a1, .int a2, .int a3, .int a4] M zI post (fun _ _ => False) := by
  unfold wp_X0_list at hw
  have hlv : lv_args 0 [.ref o, .int a0, .int a1, .int a2, .int a3, .int a4] = [(0, .ref o), (1, .int a0), (2, .int a1), (3, .int a2), (4, .int a3), (5, .int a4)] := (zargs1 rfl (zargs1 rfl (zargs1 rfl (zargs1 rfl (zargs1 rfl (zargs1 rfl rfl))))))
  refine z_ofW hlt (by decide) (Nat.le_trans (zsl1 rfl (zsl1 rfl (zsl1 rfl (zsl1 rfl (zsl1 rfl (zsl1 rfl (Nat.le_refl 0 : (lg_sl []).length ≤ 0))))))) (Nat.le_of_ble_eq_true rfl)) hlv ?_
  intro p e s m args below meth c ls hG hZ hl
  have hC := hG.1
  have hx := hC.x
  have hb := hC.b
  have hown := hC.o
  have hts := hC.ts
  have hlt := hG.2.2.2.2.2
  obtain ⟨cells, hce⟩ : ∃ z : Nat, z = 0 := ⟨0, rfl⟩
  obtain ⟨slots, hsl⟩ : ∃ z : Nat, z = 0 := ⟨0, rfl⟩
  refine W.cs (cells' := cells) (slots' := slots) hce.symm hsl.symm ?_
  have hk : cells + k ≤ k := by omega
  have hn : slots + n ≤ n := by omega
  clear hce hsl
  refine lv_iload_n hx hb dX0_list_0 rfl (lv_at hl 1 rfl) ?_
  refine z_callI hZ (vx_runS (As := [.int a0]) (rest := []) hC.fix (w_X0_isArgument hlt hw) (va_cwS 1 hts (lw_S q1085 q1086 q67 q1087) rfl rfl rfl dd_X0_isArgument ⟨Nat.le_of_ble_eq_true rfl, Nat.le_of_ble_eq_true rfl⟩) (z_preS hC hZ) rfl rfl hl.1 rfl (lv_room (Nat.zero_le _)) dX0_list_1 ⟨(show cells + 0 ≤ k by omega), (show slots + 0 ≤ n by omega)⟩) (fun r15 M H locs hw1 hZ => ?_) (fun q M H locs ci fs E T9 N9 hw hZ hc1 hM1 hb1 => False.elim hw)
  replace hw := hw1
  clear hw1
  refine W.cs (cells' := cells) (slots' := slots) rfl rfl ?_
  refine lv_if_eq (tgt := 19) hx hb dX0_list_4 (by decide) (fun c28 => ?_) (fun c28 => ?_)
  · replace hw := hw.1 c28
    exact wk_X0_list_L19 hG _ _ _ hk hn hZ (lv_sub hl [] rfl) hw
  · replace hw := hw.2 c28
    refine lv_iload_n hx hb dX0_list_7 rfl (lv_at hl 2 rfl) ?_
    refine lv_i2l hx hb dX0_list_8 rfl ?_
    refine lv_lconst (v := 0) hx hb dX0_list_9 (by decide) ?_
    refine lv_ldc2 hx hb hown (hts _ q531) dX0_list_10 ?_
    refine z_callI hZ (vx_runS (As := [.long (a1.toInt64), .long (0 : Int64), .long (3 : Int64)]) (rest := []) hC.fix (w_X0_in hlt hw) (va_cwS 3 hts (lw_S q434 q435 q67 q436) rfl rfl rfl dd_X0_in ⟨Nat.le_of_ble_eq_true rfl, Nat.le_of_ble_eq_true rfl⟩) (z_preS hC hZ) rfl rfl hl.1 rfl (lv_room (Nat.zero_le _)) dX0_list_13 ⟨(show cells + 0 ≤ k by omega), (show slots + 0 ≤ n by omega)⟩) (fun r18 M H locs hw1 hZ => ?_) (fun q M H locs ci fs E T9 N9 hw hZ hc1 hM1 hb1 => False.elim hw)
    replace hw := hw1
    clear hw1
    refine W.cs (cells' := cells) (slots' := slots) rfl rfl ?_
    refine lv_if_ne (tgt := 21) hx hb dX0_list_16 (by decide) (fun c27 => ?_) (fun c27 => ?_)
    · replace hw := hw.1 c27
      refine lv_aload_n hx hb dX0_list_21 rfl (lv_at hl 0 rfl) ?_
      obtain ⟨fs0, g21, hM0, hx0, hw⟩ := hw
      refine z_get hC hZ hM0 zc0 6 (by decide) q407 (fun _ h9 => h9) hx0 dX0_list_22 ?_
      refine lv_iload_n hx hb dX0_list_25 rfl (lv_at hl 1 rfl) ?_
      refine lv_iload_n hx hb dX0_list_26 rfl (lv_at hl 2 rfl) ?_
      refine lv_iconst (v := 3) hx hb dX0_list_27 (by decide) ?_
      obtain ⟨hx1, hx2, hk1, hn1, hw⟩ := hw
      refine z_newa (k := 0) (a0 := zna 0 (3 : Int32).toNatClampNeg) (atype := .int) hC hZ q336 rfl (by decide) (fun _ => rfl) hx1 rfl (z_bytes hx2 (by decide)) (show cells + 1 ≤ k by omega) (show slots + (3 : Int32).toNatClampNeg ≤ n by omega) dX0_list_28 (fun b22 H hq0 hq1 hZ => ?_)
      replace hw := hw b22 hq0 hq1
      replace hZ : zS D (zu M b22 (some (.inl (0, zna 0 (3 : Int32).toNatClampNeg)))) _ _ := hZ
      refine W.cs (cells' := cells + 1) (slots' := slots + (3 : Int32).toNatClampNeg) rfl rfl ?_
      generalize zu M _ _ = M at hw hZ
      have hk : cells + 1 + (k - 1) ≤ k := by omega
      have hn : slots + (3 : Int32).toNatClampNeg + (n - (3 : Int32).toNatClampNeg) ≤ n := by omega
      generalize cells + 1 = cells at hk ⊢
      generalize slots + (3 : Int32).toNatClampNeg = slots at hn ⊢
      clear hk1 hn1 hx1 hx2
      refine lv_dup hx hb dX0_list_30 rfl ?_
      refine lv_iconst (v := 0) hx hb dX0_list_31 (by decide) ?_
      refine lv_iload_n hx hb dX0_list_32 rfl (lv_at hl 3 rfl) ?_
      obtain ⟨n0, f0, hM0, hb0, hi0, hw⟩ := hw
      refine z_iast hC hZ hM0 hb0 hi0 dX0_list_33 (fun H locs hZ => ?_)
      generalize zu M _ _ = M at hw hZ
      refine lv_dup hx hb dX0_list_34 rfl ?_
      refine lv_iconst (v := 1) hx hb dX0_list_35 (by decide) ?_
      refine lv_iload hx hb dX0_list_36 (lv_at hl 4 rfl) ?_
      obtain ⟨n0, f0, hM0, hb0, hi0, hw⟩ := hw
      refine z_iast hC hZ hM0 hb0 hi0 dX0_list_38 (fun H locs hZ => ?_)
      generalize zu M _ _ = M at hw hZ
      refine lv_dup hx hb dX0_list_39 rfl ?_
      refine lv_iconst (v := 2) hx hb dX0_list_40 (by decide) ?_
      refine lv_iload hx hb dX0_list_41 (lv_at hl 5 rfl) ?_
      obtain ⟨n0, f0, hM0, hb0, hi0, hw⟩ := hw
      refine z_iast hC hZ hM0 hb0 hi0 dX0_list_43 (fun H locs hZ => ?_)
      generalize zu M _ _ = M at hw hZ
      obtain ⟨k24, n25, hk1, hn1, hw⟩ := hw
      refine z_callR hZ (vx_runS (As := [.int a1, .ref b22]) (rest := [.int a0, va_rf g21]) hC.fix (w_X0_listed hlt hw) (va_cwS 2 hts (lw_S q1203 q1204 q67 q1205) rfl rfl rfl dd_X0_listed ⟨Nat.le_of_ble_eq_true rfl, Nat.le_of_ble_eq_true rfl⟩) (z_preS hC hZ) rfl rfl hl.1 rfl (lv_room (Nat.le_trans (zrm1 rfl (zrm1 (zcat _) zrm0)) (Nat.le_of_ble_eq_true rfl))) dX0_list_44 ⟨(show cells + k24 ≤ k by omega), (show slots + n25 ≤ n by omega)⟩) (fun r23 M H locs hw1 hZ => ?_) (fun q M H locs ci fs E T9 N9 hw hZ hc1 hM1 hb1 => False.elim hw)
      replace hw := hw1
      clear hw1
      have hk : cells + k24 + ((k - 1) - k24) ≤ k := by omega
      have hn : slots + n25 + ((n - (3 : Int32).toNatClampNeg) - n25) ≤ n := by omega
      generalize cells + k24 = cells at hk ⊢
      generalize slots + n25 = slots at hn ⊢
      clear hk1 hn1
      obtain ⟨b26, hr0, hw⟩ := hw
      subst hr0
      obtain ⟨n0, f0, hM0, hb0, hi0, hv0, hw⟩ := hw
      refine z_aastO (r := r23) hC hZ hM0 hb0 rfl hv0 hi0 dX0_list_47 (fun H locs hZ => ?_)
      generalize zu M _ _ = M at hw hZ
      refine lv_iload_n hx hb dX0_list_48 rfl (lv_at hl 2 rfl) ?_
      exact z_iret hG hZ (by omega) (by omega) hw dX0_list_49
    · replace hw := hw.2 c27
      exact wk_X0_list_L19 hG _ _ _ hk hn hZ (lv_sub hl [] rfl) hw
abbrev rm_X0_more (K N : Nat) : Room := { frames := 3, cells := K, slots := N, locals := 109 }
def wp_X0_more (D : zD) (post : Int32 → zM → Prop) (k : Nat) (n : Nat) (o : Nat) (a0 : Int32) (a1 : Int32) (M : zM) : Prop :=
    (wp_X0_isArgument D (fun r1 M => ((¬ r1 = 0 → (zgR M o 0 6 fun g4 => ((zd g4 fun b5 => zaR M b5 9 a0 fun v6 => ((∃ w fs, v6 = some w ∧ M w = some (.inr (24, fs)) ∧ (((1 : Int32) = 0 → post (-2 : Int32) M) ∧ (¬ (1 : Int32) = 0 → ((∀ w, v6 = some w → zis M w [24]) ∧ ((zd v6 fun b7 => zgR M b7 24 0 fun g8 => ((zd g8 fun b9 => zlen M b9 fun n10 => ((¬ n10 = (6 : Int32) → (zgR M o 0 6 fun g11 => ((zis M b7 [24] ∧ (∃ k13 n14, k13 ≤ k ∧ n14 ≤ n ∧ wp_X27_with D (fun r12 M => ((zd g11 fun b15 => zsR D M b15 9 a0 r12 fun M => (zgR M b7 24 0 fun g16 => ((zd g16 fun b17 => zlen M b17 fun n18 => post (n18 + (1 : Int32)) M)))))) k13 n14 b7 a1 M))))) ∧ (n10 = (6 : Int32) → post (-3 : Int32) M)))))))))) ∨ ((∀ w, v6 = some w → zis M w [22, 23]) ∧ (((0 : Int32) = 0 → post (-2 : Int32) M) ∧ (¬ (0 : Int32) = 0 → ((∀ w, v6 = some w → zis M w [24]) ∧ ((zd v6 fun b21 => zgR M b21 24 0 fun g22 => ((zd g22 fun b23 => zlen M b23 fun n24 => ((¬ n24 = (6 : Int32) → (zgR M o 0 6 fun g25 => ((zis M b21 [24] ∧ (∃ k27 n28, k27 ≤ k ∧ n28 ≤ n ∧ wp_X27_with D (fun r26 M => ((zd g25 fun b29 => zsR D M b29 9 a0 r26 fun M => (zgR M b21 24 0 fun g30 => ((zd g30 fun b31 => zlen M b31 fun n32 => post (n32 + (1 : Int32)) M)))))) k27 n28 b21 a1 M))))) ∧ (n24 = (6 : Int32) → post (-3 : Int32) M))))))))))))))) ∧ (r1 = 0 → post (-1 : Int32) M))) a0 M)
set_option maxHeartbeats 4000000 in
set_option maxRecDepth 100000 in
theorem w_X0_more {l : Launch} {D : zD} {post : Int32 → zM → Prop} (hlt : l.stackTraces = false) {k : Nat} {n : Nat} {o : Nat} {a0 : Int32} {a1 : Int32} {M : zM} (hw : wp_X0_more D post k n o a0 a1 M) : zMet l D yX0_more (ws_ yX0_more cX0_more 5 (some .int)) (rm_X0_more k n) k n [.ref o, .int a0, .int a1] M zI post (fun _ _ => False) := by
  unfold wp_X0_more at hw
  have hlv : lv_args 0 [.ref o, .int a0, .int a1] = [(0, .ref o), (1, .int a0), (2, .int a1)] := (zargs1 rfl (zargs1 rfl (zargs1 rfl rfl)))
  refine z_ofW hlt (by decide) (Nat.le_trans (zsl1 rfl (zsl1 rfl (zsl1 rfl (Nat.le_refl 0 : (lg_sl []).length ≤ 0)))) (Nat.le_of_ble_eq_true rfl)) hlv ?_
  intro p e s m args below meth c ls hG hZ hl
  have hC := hG.1
  have hx := hC.x
  have hb := hC.b
  have hown := hC.o
  have hts := hC.ts
  have hlt := hG.2.2.2.2.2
  obtain ⟨cells, hce⟩ : ∃ z : Nat, z = 0 := ⟨0, rfl⟩
  obtain ⟨slots, hsl⟩ : ∃ z : Nat, z = 0 := ⟨0, rfl⟩
  refine W.cs (cells' := cells) (slots' := slots) hce.symm hsl.symm ?_
  have hk : cells + k ≤ k := by omega
  have hn : slots + n ≤ n := by omega
  clear hce hsl
  refine lv_iload_n hx hb dX0_more_0 rfl (lv_at hl 1 rfl) ?_
  refine z_callI hZ (vx_runS (As := [.int a0]) (rest := []) hC.fix (w_X0_isArgument hlt hw) (va_cwS 1 hts (lw_S q1085 q1086 q67 q1087) rfl rfl rfl dd_X0_isArgument ⟨Nat.le_of_ble_eq_true rfl, Nat.le_of_ble_eq_true rfl⟩) (z_preS hC hZ) rfl rfl hl.1 rfl (lv_room (Nat.zero_le _)) dX0_more_1 ⟨(show cells + 0 ≤ k by omega), (show slots + 0 ≤ n by omega)⟩) (fun r36 M H locs hw1 hZ => ?_) (fun q M H locs ci fs E T9 N9 hw hZ hc1 hM1 hb1 => False.elim hw)
  replace hw := hw1
  clear hw1
  refine W.cs (cells' := cells) (slots' := slots) rfl rfl ?_
  refine lv_if_ne (tgt := 9) hx hb dX0_more_4 (by decide) (fun c70 => ?_) (fun c70 => ?_)
  · replace hw := hw.1 c70
    refine lv_aload_n hx hb dX0_more_9 rfl (lv_at hl 0 rfl) ?_
    obtain ⟨fs0, g39, hM0, hx0, hw⟩ := hw
    refine z_get hC hZ hM0 zc0 6 (by decide) q407 (fun _ h9 => h9) hx0 dX0_more_10 ?_
    refine lv_iload_n hx hb dX0_more_13 rfl (lv_at hl 1 rfl) ?_
    obtain ⟨b40, hr0, hw⟩ := hw
    subst hr0
    obtain ⟨n0, f0, v41, hM0, hi0, hr0, hw⟩ := hw
    refine z_aald hC hZ hM0 (by decide) rfl hi0 hr0 dX0_more_14 ?_
    refine z_astore (i := 4) (lv' := [(4, va_rf v41), (0, .ref o), (1, .int a0), (2, .int a1)]) hC dX0_more_15 hl (by decide) rfl (fun ls hl1 => ?_)
    replace hl := hl1
    clear hl1
    refine z_aload hC dX0_more_17 (lv_at hl 0 rfl) ?_
    rcases hw with ⟨w0, fs0, hr0, hM0, hw⟩ | ⟨hc0, hw⟩
    · refine z_instYO (r := v41) hC hZ hr0 hM0 zc24 q1206 rfl dX0_more_19 ?_
      refine lv_if_eq (tgt := 34) hx hb dX0_more_22 (by decide) (fun c55 => ?_) (fun c55 => ?_)
      · replace hw := hw.1 c55
        refine lv_bipush (v := (-2)) hx hb dX0_more_34 (by decide) ?_
        exact z_iret hG hZ (by omega) (by omega) hw dX0_more_36
      · replace hw := hw.2 c55
        refine z_aload hC dX0_more_25 (lv_at hl 0 rfl) ?_
        obtain ⟨hc0, hw⟩ := hw
        refine z_castO (r := v41) hC hZ hc0 (zal ⟨_, _, _, _, zc24, (Or.inl rfl)⟩ (za0)) q1206 dX0_more_27 ?_
        refine z_astore_n (i := 3) (lv' := [(3, va_rf v41), (4, va_rf v41), (0, .ref o), (1, .int a0), (2, .int a1)]) hC dX0_more_30 rfl hl (by decide) rfl (fun ls hl1 => ?_)
        replace hl := hl1
        clear hl1
        refine lv_goto (tgt := 37) hx hb dX0_more_31 (by decide) ?_
        refine z_aload_n hC dX0_more_37 rfl (lv_at hl 0 rfl) ?_
        obtain ⟨b42, hr0, hw⟩ := hw
        subst hr0
        obtain ⟨fs0, g43, hM0, hx0, hw⟩ := hw
        refine z_getN hC hZ hM0 zc24 0 (by decide) q1213 (fun _ h9 => h9) hx0 dX0_more_38 ?_
        obtain ⟨b44, hr0, hw⟩ := hw
        subst hr0
        obtain ⟨y0, hM0, hy0, hw⟩ := hw
        refine z_alen hC hZ hM0 hy0 dX0_more_41 ?_
        generalize Int32.ofNat y0.2.1 = n45 at hw ⊢
        refine lv_bipush (v := 6) hx hb dX0_more_42 (by decide) ?_
        refine lv_icmp_ne (tgt := 50) hx hb dX0_more_44 (by decide) (fun c54 => ?_) (fun c54 => ?_)
        · replace hw := hw.1 c54
          refine lv_aload_n hx hb dX0_more_50 rfl (lv_at hl 2 rfl) ?_
          obtain ⟨fs0, g46, hM0, hx0, hw⟩ := hw
          refine z_get hC hZ hM0 zc0 6 (by decide) q407 (fun _ h9 => h9) hx0 dX0_more_51 ?_
          refine lv_iload_n hx hb dX0_more_54 rfl (lv_at hl 3 rfl) ?_
          refine lv_aload_n hx hb dX0_more_55 rfl (lv_at hl 0 rfl) ?_
          refine lv_iload_n hx hb dX0_more_56 rfl (lv_at hl 4 rfl) ?_
          obtain ⟨⟨ci0, fs0, hci0, hM0⟩, hw⟩ := hw
          obtain ⟨k48, n49, hk1, hn1, hw⟩ := hw
          obtain rfl : ci0 = 24 := List.mem_singleton.mp hci0
          refine z_callR hZ (vx_runV (As := [.int a1]) (rest := [.int a0, va_rf g46]) hC.fix (w_X27_with hlt hw) (cwV 1 hts (lw_V q1217 q1218 q1219 q111 q1220) rfl rfl rfl ⟨rfl, dd_X27_with⟩ ⟨Nat.le_of_ble_eq_true rfl, Nat.le_of_ble_eq_true rfl⟩) (z_preV hC hZ hM0 zc24) rfl rfl hl.1 rfl (lv_room (Nat.le_trans (zrm1 rfl (zrm1 (zcat _) zrm0)) (Nat.le_of_ble_eq_true rfl))) dX0_more_57 ⟨(show cells + k48 ≤ k by omega), (show slots + n49 ≤ n by omega)⟩) (fun r47 M H locs hw1 hZ => ?_) (fun q M H locs ci fs E T9 N9 hw hZ hc1 hM1 hb1 => False.elim hw)
          replace hw := hw1
          clear hw1
          have hk : cells + k48 + (k - k48) ≤ k := by omega
          have hn : slots + n49 + (n - n49) ≤ n := by omega
          generalize cells + k48 = cells at hk ⊢
          generalize slots + n49 = slots at hn ⊢
          clear hk1 hn1
          obtain ⟨b50, hr0, hw⟩ := hw
          subst hr0
          obtain ⟨n0, f0, hM0, hb0, hi0, hv0, hw⟩ := hw
          refine z_aastO (r := r47) hC hZ hM0 hb0 rfl hv0 hi0 dX0_more_60 (fun H locs hZ => ?_)
          generalize zu M _ _ = M at hw hZ
          refine lv_aload_n hx hb dX0_more_61 rfl (lv_at hl 0 rfl) ?_
          obtain ⟨fs0, g51, hM0, hx0, hw⟩ := hw
          refine z_getN hC hZ hM0 zc24 0 (by decide) q1213 (fun _ h9 => h9) hx0 dX0_more_62 ?_
          obtain ⟨b52, hr0, hw⟩ := hw
          subst hr0
          obtain ⟨y0, hM0, hy0, hw⟩ := hw
          refine z_alen hC hZ hM0 hy0 dX0_more_65 ?_
          generalize Int32.ofNat y0.2.1 = n53 at hw ⊢
          refine lv_iconst (v := 1) hx hb dX0_more_66 (by decide) ?_
          refine lv_iadd hx hb dX0_more_67 ?_
          exact z_iret hG hZ (by omega) (by omega) hw dX0_more_68
        · replace hw := hw.2 c54
          refine lv_bipush (v := (-3)) hx hb dX0_more_47 (by decide) ?_
          exact z_iret hG hZ (by omega) (by omega) hw dX0_more_49
    · refine z_instNO (r := v41) hC hZ hc0 (zal ⟨_, _, _, _, zc22, by decide⟩ (zal ⟨_, _, _, _, zc23, by decide⟩ (za0))) q1206 dX0_more_19 ?_
      refine lv_if_eq (tgt := 34) hx hb dX0_more_22 (by decide) (fun c69 => ?_) (fun c69 => ?_)
      · replace hw := hw.1 c69
        refine lv_bipush (v := (-2)) hx hb dX0_more_34 (by decide) ?_
        exact z_iret hG hZ (by omega) (by omega) hw dX0_more_36
      · replace hw := hw.2 c69
        refine z_aload hC dX0_more_25 (lv_at hl 0 rfl) ?_
        obtain ⟨hc0, hw⟩ := hw
        refine z_castO (r := v41) hC hZ hc0 (zal ⟨_, _, _, _, zc24, (Or.inl rfl)⟩ (za0)) q1206 dX0_more_27 ?_
        refine z_astore_n (i := 3) (lv' := [(3, va_rf v41), (4, va_rf v41), (0, .ref o), (1, .int a0), (2, .int a1)]) hC dX0_more_30 rfl hl (by decide) rfl (fun ls hl1 => ?_)
        replace hl := hl1
        clear hl1
        refine lv_goto (tgt := 37) hx hb dX0_more_31 (by decide) ?_
        refine z_aload_n hC dX0_more_37 rfl (lv_at hl 0 rfl) ?_
        obtain ⟨b56, hr0, hw⟩ := hw
        subst hr0
        obtain ⟨fs0, g57, hM0, hx0, hw⟩ := hw
        refine z_getN hC hZ hM0 zc24 0 (by decide) q1213 (fun _ h9 => h9) hx0 dX0_more_38 ?_
        obtain ⟨b58, hr0, hw⟩ := hw
        subst hr0
        obtain ⟨y0, hM0, hy0, hw⟩ := hw
        refine z_alen hC hZ hM0 hy0 dX0_more_41 ?_
        generalize Int32.ofNat y0.2.1 = n59 at hw ⊢
        refine lv_bipush (v := 6) hx hb dX0_more_42 (by decide) ?_
        refine lv_icmp_ne (tgt := 50) hx hb dX0_more_44 (by decide) (fun c68 => ?_) (fun c68 => ?_)
        · replace hw := hw.1 c68
          refine lv_aload_n hx hb dX0_more_50 rfl (lv_at hl 2 rfl) ?_
          obtain ⟨fs0, g60, hM0, hx0, hw⟩ := hw
          refine z_get hC hZ hM0 zc0 6 (by decide) q407 (fun _ h9 => h9) hx0 dX0_more_51 ?_
          refine lv_iload_n hx hb dX0_more_54 rfl (lv_at hl 3 rfl) ?_
          refine lv_aload_n hx hb dX0_more_55 rfl (lv_at hl 0 rfl) ?_
          refine lv_iload_n hx hb dX0_more_56 rfl (lv_at hl 4 rfl) ?_
          obtain ⟨⟨ci0, fs0, hci0, hM0⟩, hw⟩ := hw
          obtain ⟨k62, n63, hk1, hn1, hw⟩ := hw
          obtain rfl : ci0 = 24 := List.mem_singleton.mp hci0
          refine z_callR hZ (vx_runV (As := [.int a1]) (rest := [.int a0, va_rf g60]) hC.fix (w_X27_with hlt hw) (cwV 1 hts (lw_V q1217 q1218 q1219 q111 q1220) rfl rfl rfl ⟨rfl, dd_X27_with⟩ ⟨Nat.le_of_ble_eq_true rfl, Nat.le_of_ble_eq_true rfl⟩) (z_preV hC hZ hM0 zc24) rfl rfl hl.1 rfl (lv_room (Nat.le_trans (zrm1 rfl (zrm1 (zcat _) zrm0)) (Nat.le_of_ble_eq_true rfl))) dX0_more_57 ⟨(show cells + k62 ≤ k by omega), (show slots + n63 ≤ n by omega)⟩) (fun r61 M H locs hw1 hZ => ?_) (fun q M H locs ci fs E T9 N9 hw hZ hc1 hM1 hb1 => False.elim hw)
          replace hw := hw1
          clear hw1
          have hk : cells + k62 + (k - k62) ≤ k := by omega
          have hn : slots + n63 + (n - n63) ≤ n := by omega
          generalize cells + k62 = cells at hk ⊢
          generalize slots + n63 = slots at hn ⊢
          clear hk1 hn1
          obtain ⟨b64, hr0, hw⟩ := hw
          subst hr0
          obtain ⟨n0, f0, hM0, hb0, hi0, hv0, hw⟩ := hw
          refine z_aastO (r := r61) hC hZ hM0 hb0 rfl hv0 hi0 dX0_more_60 (fun H locs hZ => ?_)
          generalize zu M _ _ = M at hw hZ
          refine lv_aload_n hx hb dX0_more_61 rfl (lv_at hl 0 rfl) ?_
          obtain ⟨fs0, g65, hM0, hx0, hw⟩ := hw
          refine z_getN hC hZ hM0 zc24 0 (by decide) q1213 (fun _ h9 => h9) hx0 dX0_more_62 ?_
          obtain ⟨b66, hr0, hw⟩ := hw
          subst hr0
          obtain ⟨y0, hM0, hy0, hw⟩ := hw
          refine z_alen hC hZ hM0 hy0 dX0_more_65 ?_
          generalize Int32.ofNat y0.2.1 = n67 at hw ⊢
          refine lv_iconst (v := 1) hx hb dX0_more_66 (by decide) ?_
          refine lv_iadd hx hb dX0_more_67 ?_
          exact z_iret hG hZ (by omega) (by omega) hw dX0_more_68
        · replace hw := hw.2 c68
          refine lv_bipush (v := (-3)) hx hb dX0_more_47 (by decide) ?_
          exact z_iret hG hZ (by omega) (by omega) hw dX0_more_49
  · replace hw := hw.2 c70
    refine lv_iconst (v := (-1)) hx hb dX0_more_7 (by decide) ?_
    exact z_iret hG hZ (by omega) (by omega) hw dX0_more_8
abbrev rm_X8_sort : Room := { frames := 1, cells := 0, slots := 0, locals := 64 }
def wp_X8_sort_L29 (D : zD) (post : Int32 → zM → Prop) (o : Nat) (y0 : Int32) (M : zM) : Prop :=
    post y0 M
set_option maxHeartbeats 4000000 in
set_option maxRecDepth 100000 in
theorem wk_X8_sort_L29 {p : Program} {l : Launch} {e : Env} {s : State} {m : MethodId} {args : Array Value} {below : List Frame} {meth : Method} {c : Code} {D : zD} {post : Int32 → zM → Prop} {o : Nat} (hG : zGx p l s m args meth c cX8_sort 1 "PluralBranches$Row" D (some .int) "sort" []) : ∀ {H : Heap} {locs : List Loc} {cells slots : Nat} {ls : Array Slot} (y0 : Int32) (M : zM), cells ≤ 0 → slots ≤ 0 → zS D M H locs → lv_has ls 1 [] → wp_X8_sort_L29 D post o y0 M → W p l e rm_X8_sort s m args below meth c H locs cells slots (vx_MQ below (zQ D zI post) (zX D (fun _ _ => False)) args s 0 0 (zA D)) (F0 m 29 ls [.int y0]) := by
  have hC := hG.1
  have hx := hC.x
  have hb := hC.b
  have hown := hC.o
  have hts := hC.ts
  have hlt := hG.2.2.2.2.2
  intro H locs cells slots ls y0 M hk hn hZ hl hw
  exact z_iret hG hZ hk hn hw dX8_sort_29
def wp_X8_sort (D : zD) (post : Int32 → zM → Prop) (o : Nat) (M : zM) : Prop :=
    (zgR M o 7 0 fun g1 => ((∃ w x, g1 = some w ∧ zB D ≤ w ∧ M w = some (.inl (3, x)) ∧ (((1 : Int32) = 0 → (zgR M o 7 0 fun g2 => ((∃ w x, g2 = some w ∧ zB D ≤ w ∧ M w = some (.inl (4, x)) ∧ (((1 : Int32) = 0 → wp_X8_sort_L29 D post o (2 : Int32) M) ∧ (¬ (1 : Int32) = 0 → wp_X8_sort_L29 D post o (1 : Int32) M))) ∨ ((∀ w, g2 = some w → zB D ≤ w ∧ ∃ x : vp_A, M w = some (.inl (2, x)) ∨ M w = some (.inl (3, x))) ∧ (((0 : Int32) = 0 → wp_X8_sort_L29 D post o (2 : Int32) M) ∧ (¬ (0 : Int32) = 0 → wp_X8_sort_L29 D post o (1 : Int32) M)))))) ∧ (¬ (1 : Int32) = 0 → wp_X8_sort_L29 D post o (0 : Int32) M))) ∨ ((∀ w, g1 = some w → zB D ≤ w ∧ ∃ x : vp_A, M w = some (.inl (2, x)) ∨ M w = some (.inl (4, x))) ∧ (((0 : Int32) = 0 → (zgR M o 7 0 fun g6 => ((∃ w x, g6 = some w ∧ zB D ≤ w ∧ M w = some (.inl (4, x)) ∧ (((1 : Int32) = 0 → wp_X8_sort_L29 D post o (2 : Int32) M) ∧ (¬ (1 : Int32) = 0 → wp_X8_sort_L29 D post o (1 : Int32) M))) ∨ ((∀ w, g6 = some w → zB D ≤ w ∧ ∃ x : vp_A, M w = some (.inl (2, x)) ∨ M w = some (.inl (3, x))) ∧ (((0 : Int32) = 0 → wp_X8_sort_L29 D post o (2 : Int32) M) ∧ (¬ (0 : Int32) = 0 → wp_X8_sort_L29 D post o (1 : Int32) M)))))) ∧ (¬ (0 : Int32) = 0 → wp_X8_sort_L29 D post o (0 : Int32) M)))))
set_option maxHeartbeats 4000000 in
set_option maxRecDepth 100000 in
theorem w_X8_sort {l : Launch} {D : zD} {post : Int32 → zM → Prop} (hlt : l.stackTraces = false) {o : Nat} {M : zM} (hw : wp_X8_sort D post o M) : zMet l D yX8_sort (ws_ yX8_sort cX8_sort 1 (some .int)) rm_X8_sort 0 0 [.ref o] M zI post (fun _ _ => False) := by
  unfold wp_X8_sort at hw
  have hlv : lv_args 0 [.ref o] = [(0, .ref o)] := (zargs1 rfl rfl)
  refine z_ofW hlt (by decide) (Nat.le_trans (zsl1 rfl (Nat.le_refl 0 : (lg_sl []).length ≤ 0)) (Nat.le_of_ble_eq_true rfl)) hlv ?_
  intro p e s m args below meth c ls hG hZ hl
  have hC := hG.1
  have hx := hC.x
  have hb := hC.b
  have hown := hC.o
  have hts := hC.ts
  have hlt := hG.2.2.2.2.2
  obtain ⟨cells, hce⟩ : ∃ z : Nat, z = 0 := ⟨0, rfl⟩
  obtain ⟨slots, hsl⟩ : ∃ z : Nat, z = 0 := ⟨0, rfl⟩
  refine W.cs (cells' := cells) (slots' := slots) hce.symm hsl.symm ?_
  have hk : cells ≤ 0 := Nat.le_of_eq hce
  have hn : slots ≤ 0 := Nat.le_of_eq hsl
  clear hce hsl
  refine lv_aload_n hx hb dX8_sort_0 rfl (lv_at hl 0 rfl) ?_
  obtain ⟨fs0, g10, hM0, hx0, hw⟩ := hw
  refine z_get hC hZ hM0 zc7 0 (by decide) q394 (fun _ h9 => h9) hx0 dX8_sort_1 ?_
  rcases hw with ⟨w0, x0, hr0, hb0, hM0, hw⟩ | ⟨hc0, hw⟩
  · refine z_instAYO (r := g10) (t := .float) hC hZ hr0 hM0 hb0 (Or.inr (Or.inl ⟨rfl, rfl⟩)) rfl q1653 dX8_sort_4 ?_
    refine lv_if_eq (tgt := 14) hx hb dX8_sort_7 (by decide) (fun c14 => ?_) (fun c14 => ?_)
    · replace hw := hw.1 c14
      refine lv_aload_n hx hb dX8_sort_14 rfl (lv_at hl 0 rfl) ?_
      obtain ⟨fs0, g11, hM0, hx0, hw⟩ := hw
      refine z_get hC hZ hM0 zc7 0 (by decide) q394 (fun _ h9 => h9) hx0 dX8_sort_15 ?_
      rcases hw with ⟨w0, x0, hr0, hb0, hM0, hw⟩ | ⟨hc0, hw⟩
      · refine z_instAYO (r := g11) (t := .double) hC hZ hr0 hM0 hb0 (Or.inr (Or.inr ⟨rfl, rfl⟩)) rfl q1654 dX8_sort_18 ?_
        refine lv_if_eq (tgt := 28) hx hb dX8_sort_21 (by decide) (fun c12 => ?_) (fun c12 => ?_)
        · replace hw := hw.1 c12
          refine lv_iconst (v := 2) hx hb dX8_sort_28 (by decide) ?_
          exact wk_X8_sort_L29 hG _ _ hk hn hZ (lv_sub hl [] rfl) hw
        · replace hw := hw.2 c12
          refine lv_iconst (v := 1) hx hb dX8_sort_24 (by decide) ?_
          refine lv_goto (tgt := 29) hx hb dX8_sort_25 (by decide) ?_
          exact wk_X8_sort_L29 hG _ _ hk hn hZ (lv_sub hl [] rfl) hw
      · refine z_instANO (r := g11) (t1 := .long) (t2 := .float) hC hZ hc0 (Or.inl ⟨rfl, rfl⟩) (Or.inr (Or.inl ⟨rfl, rfl⟩)) (by decide) (by decide) q1654 dX8_sort_18 ?_
        refine lv_if_eq (tgt := 28) hx hb dX8_sort_21 (by decide) (fun c13 => ?_) (fun c13 => ?_)
        · replace hw := hw.1 c13
          refine lv_iconst (v := 2) hx hb dX8_sort_28 (by decide) ?_
          exact wk_X8_sort_L29 hG _ _ hk hn hZ (lv_sub hl [] rfl) hw
        · replace hw := hw.2 c13
          refine lv_iconst (v := 1) hx hb dX8_sort_24 (by decide) ?_
          refine lv_goto (tgt := 29) hx hb dX8_sort_25 (by decide) ?_
          exact wk_X8_sort_L29 hG _ _ hk hn hZ (lv_sub hl [] rfl) hw
    · replace hw := hw.2 c14
      refine lv_iconst (v := 0) hx hb dX8_sort_10 (by decide) ?_
      refine lv_goto (tgt := 29) hx hb dX8_sort_11 (by decide) ?_
      exact wk_X8_sort_L29 hG _ _ hk hn hZ (lv_sub hl [] rfl) hw
  · refine z_instANO (r := g10) (t1 := .long) (t2 := .double) hC hZ hc0 (Or.inl ⟨rfl, rfl⟩) (Or.inr (Or.inr ⟨rfl, rfl⟩)) (by decide) (by decide) q1653 dX8_sort_4 ?_
    refine lv_if_eq (tgt := 14) hx hb dX8_sort_7 (by decide) (fun c18 => ?_) (fun c18 => ?_)
    · replace hw := hw.1 c18
      refine lv_aload_n hx hb dX8_sort_14 rfl (lv_at hl 0 rfl) ?_
      obtain ⟨fs0, g15, hM0, hx0, hw⟩ := hw
      refine z_get hC hZ hM0 zc7 0 (by decide) q394 (fun _ h9 => h9) hx0 dX8_sort_15 ?_
      rcases hw with ⟨w0, x0, hr0, hb0, hM0, hw⟩ | ⟨hc0, hw⟩
      · refine z_instAYO (r := g15) (t := .double) hC hZ hr0 hM0 hb0 (Or.inr (Or.inr ⟨rfl, rfl⟩)) rfl q1654 dX8_sort_18 ?_
        refine lv_if_eq (tgt := 28) hx hb dX8_sort_21 (by decide) (fun c16 => ?_) (fun c16 => ?_)
        · replace hw := hw.1 c16
          refine lv_iconst (v := 2) hx hb dX8_sort_28 (by decide) ?_
          exact wk_X8_sort_L29 hG _ _ hk hn hZ (lv_sub hl [] rfl) hw
        · replace hw := hw.2 c16
          refine lv_iconst (v := 1) hx hb dX8_sort_24 (by decide) ?_
          refine lv_goto (tgt := 29) hx hb dX8_sort_25 (by decide) ?_
          exact wk_X8_sort_L29 hG _ _ hk hn hZ (lv_sub hl [] rfl) hw
      · refine z_instANO (r := g15) (t1 := .long) (t2 := .float) hC hZ hc0 (Or.inl ⟨rfl, rfl⟩) (Or.inr (Or.inl ⟨rfl, rfl⟩)) (by decide) (by decide) q1654 dX8_sort_18 ?_
        refine lv_if_eq (tgt := 28) hx hb dX8_sort_21 (by decide) (fun c17 => ?_) (fun c17 => ?_)
        · replace hw := hw.1 c17
          refine lv_iconst (v := 2) hx hb dX8_sort_28 (by decide) ?_
          exact wk_X8_sort_L29 hG _ _ hk hn hZ (lv_sub hl [] rfl) hw
        · replace hw := hw.2 c17
          refine lv_iconst (v := 1) hx hb dX8_sort_24 (by decide) ?_
          refine lv_goto (tgt := 29) hx hb dX8_sort_25 (by decide) ?_
          exact wk_X8_sort_L29 hG _ _ hk hn hZ (lv_sub hl [] rfl) hw
    · replace hw := hw.2 c18
      refine lv_iconst (v := 0) hx hb dX8_sort_10 (by decide) ?_
      refine lv_goto (tgt := 29) hx hb dX8_sort_11 (by decide) ?_
      exact wk_X8_sort_L29 hG _ _ hk hn hZ (lv_sub hl [] rfl) hw
abbrev rm_X0_move : Room := { frames := 3, cells := 0, slots := 0, locals := 109 }
def wp_X0_move_L14 (D : zD) (post : Int32 → zM → Prop) (o : Nat) (M : zM) : Prop :=
    post (-1 : Int32) M
set_option maxHeartbeats 4000000 in
set_option maxRecDepth 100000 in
theorem wk_X0_move_L14 {p : Program} {l : Launch} {e : Env} {s : State} {m : MethodId} {args : Array Value} {below : List Frame} {meth : Method} {c : Code} {D : zD} {post : Int32 → zM → Prop} {o : Nat} (hG : zGx p l s m args meth c cX0_move 8 "PluralBranches" D (some .int) "move" []) : ∀ {H : Heap} {locs : List Loc} {cells slots : Nat} {ls : Array Slot} (M : zM), cells ≤ 0 → slots ≤ 0 → zS D M H locs → lv_has ls 8 [] → wp_X0_move_L14 D post o M → W p l e rm_X0_move s m args below meth c H locs cells slots (vx_MQ below (zQ D zI post) (zX D (fun _ _ => False)) args s 0 0 (zA D)) (F0 m 14 ls []) := by
  have hC := hG.1
  have hx := hC.x
  have hb := hC.b
  have hown := hC.o
  have hts := hC.ts
  have hlt := hG.2.2.2.2.2
  intro H locs cells slots ls M hk hn hZ hl hw
  refine lv_iconst (v := (-1)) hx hb dX0_move_14 (by decide) ?_
  exact z_iret hG hZ hk hn hw dX0_move_15
def wp_X0_move_L48 (D : zD) (post : Int32 → zM → Prop) (o : Nat) (M : zM) : Prop :=
    post (-11 : Int32) M
set_option maxHeartbeats 4000000 in
set_option maxRecDepth 100000 in
theorem wk_X0_move_L48 {p : Program} {l : Launch} {e : Env} {s : State} {m : MethodId} {args : Array Value} {below : List Frame} {meth : Method} {c : Code} {D : zD} {post : Int32 → zM → Prop} {o : Nat} (hG : zGx p l s m args meth c cX0_move 8 "PluralBranches" D (some .int) "move" []) : ∀ {H : Heap} {locs : List Loc} {cells slots : Nat} {ls : Array Slot} (M : zM), cells ≤ 0 → slots ≤ 0 → zS D M H locs → lv_has ls 8 [] → wp_X0_move_L48 D post o M → W p l e rm_X0_move s m args below meth c H locs cells slots (vx_MQ below (zQ D zI post) (zX D (fun _ _ => False)) args s 0 0 (zA D)) (F0 m 48 ls []) := by
  have hC := hG.1
  have hx := hC.x
  have hb := hC.b
  have hown := hC.o
  have hts := hC.ts
  have hlt := hG.2.2.2.2.2
  intro H locs cells slots ls M hk hn hZ hl hw
  refine lv_bipush (v := (-11)) hx hb dX0_move_48 (by decide) ?_
  exact z_iret hG hZ hk hn hw dX0_move_50
def wp_X0_move_L106 (D : zD) (post : Int32 → zM → Prop) (o : Nat) (M : zM) : Prop :=
    post (-12 : Int32) M
set_option maxHeartbeats 4000000 in
set_option maxRecDepth 100000 in
theorem wk_X0_move_L106 {p : Program} {l : Launch} {e : Env} {s : State} {m : MethodId} {args : Array Value} {below : List Frame} {meth : Method} {c : Code} {D : zD} {post : Int32 → zM → Prop} {o : Nat} (hG : zGx p l s m args meth c cX0_move 8 "PluralBranches" D (some .int) "move" []) : ∀ {H : Heap} {locs : List Loc} {cells slots : Nat} {ls : Array Slot} (M : zM), cells ≤ 0 → slots ≤ 0 → zS D M H locs → lv_has ls 8 [] → wp_X0_move_L106 D post o M → W p l e rm_X0_move s m args below meth c H locs cells slots (vx_MQ below (zQ D zI post) (zX D (fun _ _ => False)) args s 0 0 (zA D)) (F0 m 106 ls []) := by
  have hC := hG.1
  have hx := hC.x
  have hb := hC.b
  have hown := hC.o
  have hts := hC.ts
  have hlt := hG.2.2.2.2.2
  intro H locs cells slots ls M hk hn hZ hl hw
  refine lv_bipush (v := (-12)) hx hb dX0_move_106 (by decide) ?_
  exact z_iret hG hZ hk hn hw dX0_move_108
def wp_X0_move (D : zD) (post : Int32 → zM → Prop) (o : Nat) (a0 : Int32) (a1 : Int32) (a2 : Int32) (a3 : Int32) (a4 : Int32) (M : zM) : Prop :=
    (wp_X0_isRow D (fun r1 M => ((r1 = 0 → wp_X0_move_L14 D post o M) ∧ (¬ r1 = 0 → (wp_X0_isRow D (fun r4 M => ((¬ r4 = 0 → (zgR M o 0 7 fun g7 => ((zd g7 fun b8 => zaR M b8 10 a0 fun v9 => (zgR M o 0 7 fun g10 => ((zd g10 fun b11 => zaR M b11 10 a2 fun v12 => ((zd v9 fun b13 => zgR M b13 7 0 fun g14 => ((g14 = none → wp_X0_move_L48 D post o M) ∧ (∀ b15 : Nat, g14 = some b15 → ((zd v12 fun b16 => zgR M b16 7 0 fun g17 => ((∀ b18 : Nat, g17 = some b18 → ((zis M b13 [7] ∧ wp_X8_sort D (fun r19 M => ((zis M b16 [7] ∧ wp_X8_sort D (fun r22 M => ((r19 = r22 → ((a4 < 0 → wp_X0_move_L106 D post o M) ∧ (¬ a4 < 0 → ((a1 < 0 → wp_X0_move_L106 D post o M) ∧ (¬ a1 < 0 → ((a3 < 0 → wp_X0_move_L106 D post o M) ∧ (¬ a3 < 0 → ((zis M b13 [7] ∧ wp_X8_size D (fun r25 M => (((r25 - a1) < a4 → wp_X0_move_L106 D post o M) ∧ (¬ (r25 - a1) < a4 → ((zis M b16 [7] ∧ wp_X8_size D (fun r28 M => ((a4 ≤ (r28 - a3) → (zgR M b13 7 0 fun g31 => (zgR M b16 7 0 fun g32 => ((zd g31 fun b33 => ((zd g32 fun b34 => (zcp2 D M b33 b34 a1 a3 a4 (fun M => post a4 M) ∨ zcp3 D M b33 b34 a1 a3 a4 (fun M => post a4 M) ∨ zcp4 D M b33 b34 a1 a3 a4 (fun M => post a4 M))))))))) ∧ (¬ a4 ≤ (r28 - a3) → wp_X0_move_L106 D post o M))) b16 M))))) b13 M))))))))) ∧ (¬ r19 = r22 → post (-13 : Int32) M))) b16 M))) b13 M))) ∧ (g17 = none → wp_X0_move_L48 D post o M))))))))))))))) ∧ (r4 = 0 → wp_X0_move_L14 D post o M))) a2 M)))) a0 M)
set_option maxHeartbeats 4000000 in
set_option maxRecDepth 100000 in
theorem w_X0_move {l : Launch} {D : zD} {post : Int32 → zM → Prop} (hlt : l.stackTraces = false) {o : Nat} {a0 : Int32} {a1 : Int32} {a2 : Int32} {a3 : Int32} {a4 : Int32} {M : zM} (hw : wp_X0_move D post o a0 a1 a2 a3 a4 M) : zMet l D yX0_move (ws_ yX0_move cX0_move 8 (some .int)) rm_X0_move 0 0 [.ref o, .int a0, .int a1, .int a2, .int a3, .int a4] M zI post (fun _ _ => False) := by
  unfold wp_X0_move at hw
  have hlv : lv_args 0 [.ref o, .int a0, .int a1, .int a2, .int a3, .int a4] = [(0, .ref o), (1, .int a0), (2, .int a1), (3, .int a2), (4, .int a3), (5, .int a4)] := (zargs1 rfl (zargs1 rfl (zargs1 rfl (zargs1 rfl (zargs1 rfl (zargs1 rfl rfl))))))
  refine z_ofW hlt (by decide) (Nat.le_trans (zsl1 rfl (zsl1 rfl (zsl1 rfl (zsl1 rfl (zsl1 rfl (zsl1 rfl (Nat.le_refl 0 : (lg_sl []).length ≤ 0))))))) (Nat.le_of_ble_eq_true rfl)) hlv ?_
  intro p e s m args below meth c ls hG hZ hl
  have hC := hG.1
  have hx := hC.x
  have hb := hC.b
  have hown := hC.o
  have hts := hC.ts
  have hlt := hG.2.2.2.2.2
  obtain ⟨cells, hce⟩ : ∃ z : Nat, z = 0 := ⟨0, rfl⟩
  obtain ⟨slots, hsl⟩ : ∃ z : Nat, z = 0 := ⟨0, rfl⟩
  refine W.cs (cells' := cells) (slots' := slots) hce.symm hsl.symm ?_
  have hk : cells ≤ 0 := Nat.le_of_eq hce
  have hn : slots ≤ 0 := Nat.le_of_eq hsl
  clear hce hsl
  refine lv_iload_n hx hb dX0_move_0 rfl (lv_at hl 1 rfl) ?_
  refine z_callI hZ (vx_runS (As := [.int a0]) (rest := []) hC.fix (w_X0_isRow hlt hw) (va_cwS 1 hts (lw_S q1631 q1632 q67 q1633) rfl rfl rfl dd_X0_isRow ⟨Nat.le_of_ble_eq_true rfl, Nat.le_of_ble_eq_true rfl⟩) (z_preS hC hZ) rfl rfl hl.1 rfl (lv_room (Nat.zero_le _)) dX0_move_1 ⟨hk, hn⟩) (fun r43 M H locs hw1 hZ => ?_) (fun q M H locs ci fs E T9 N9 hw hZ hc1 hM1 hb1 => False.elim hw)
  replace hw := hw1
  clear hw1
  refine W.cs (cells' := cells) (slots' := slots) rfl rfl ?_
  refine lv_if_eq (tgt := 14) hx hb dX0_move_4 (by decide) (fun c84 => ?_) (fun c84 => ?_)
  · replace hw := hw.1 c84
    exact wk_X0_move_L14 hG _ hk hn hZ (lv_sub hl [] rfl) hw
  · replace hw := hw.2 c84
    refine lv_iload_n hx hb dX0_move_7 rfl (lv_at hl 3 rfl) ?_
    refine z_callI hZ (vx_runS (As := [.int a2]) (rest := []) hC.fix (w_X0_isRow hlt hw) (va_cwS 1 hts (lw_S q1631 q1632 q67 q1633) rfl rfl rfl dd_X0_isRow ⟨Nat.le_of_ble_eq_true rfl, Nat.le_of_ble_eq_true rfl⟩) (z_preS hC hZ) rfl rfl hl.1 rfl (lv_room (Nat.zero_le _)) dX0_move_8 ⟨hk, hn⟩) (fun r46 M H locs hw1 hZ => ?_) (fun q M H locs ci fs E T9 N9 hw hZ hc1 hM1 hb1 => False.elim hw)
    replace hw := hw1
    clear hw1
    refine W.cs (cells' := cells) (slots' := slots) rfl rfl ?_
    refine lv_if_ne (tgt := 16) hx hb dX0_move_11 (by decide) (fun c83 => ?_) (fun c83 => ?_)
    · replace hw := hw.1 c83
      refine lv_aload_n hx hb dX0_move_16 rfl (lv_at hl 0 rfl) ?_
      obtain ⟨fs0, g49, hM0, hx0, hw⟩ := hw
      refine z_get hC hZ hM0 zc0 7 (by decide) q408 (fun _ h9 => h9) hx0 dX0_move_17 ?_
      refine lv_iload_n hx hb dX0_move_20 rfl (lv_at hl 1 rfl) ?_
      obtain ⟨b50, hr0, hw⟩ := hw
      subst hr0
      obtain ⟨n0, f0, v51, hM0, hi0, hr0, hw⟩ := hw
      refine z_aald hC hZ hM0 (by decide) rfl hi0 hr0 dX0_move_21 ?_
      refine z_astore (i := 6) (lv' := [(6, va_rf v51), (0, .ref o), (1, .int a0), (2, .int a1), (3, .int a2), (4, .int a3), (5, .int a4)]) hC dX0_move_22 hl (by decide) rfl (fun ls hl1 => ?_)
      replace hl := hl1
      clear hl1
      refine lv_aload_n hx hb dX0_move_24 rfl (lv_at hl 1 rfl) ?_
      obtain ⟨fs0, g52, hM0, hx0, hw⟩ := hw
      refine z_get hC hZ hM0 zc0 7 (by decide) q408 (fun _ h9 => h9) hx0 dX0_move_25 ?_
      refine lv_iload_n hx hb dX0_move_28 rfl (lv_at hl 4 rfl) ?_
      obtain ⟨b53, hr0, hw⟩ := hw
      subst hr0
      obtain ⟨n0, f0, v54, hM0, hi0, hr0, hw⟩ := hw
      refine z_aald hC hZ hM0 (by decide) rfl hi0 hr0 dX0_move_29 ?_
      refine z_astore (i := 7) (lv' := [(7, va_rf v54), (6, va_rf v51), (0, .ref o), (1, .int a0), (2, .int a1), (3, .int a2), (4, .int a3), (5, .int a4)]) hC dX0_move_30 hl (by decide) (zfc rfl (zfk (zfa rfl) (zfk rfl (zfk rfl (zfk rfl (zfk rfl (zfk rfl (zfk rfl rfl)))))))) (fun ls hl1 => ?_)
      replace hl := hl1
      clear hl1
      refine z_aload hC dX0_move_32 (lv_at hl 1 rfl) ?_
      obtain ⟨b55, hr0, hw⟩ := hw
      subst hr0
      obtain ⟨fs0, g56, hM0, hx0, hw⟩ := hw
      refine z_getN hC hZ hM0 zc7 0 (by decide) q395 (fun _ h9 => h9) hx0 dX0_move_34 ?_
      refine z_ifnull (tgt := 48) hC dX0_move_37 (by decide) (fun hr0 => ?_) (fun b57 hr0 => ?_)
      · replace hw := hw.1 hr0
        exact wk_X0_move_L48 hG _ hk hn hZ (lv_sub hl [] rfl) hw
      · replace hw := hw.2 b57 hr0
        subst hr0
        refine z_aload hC dX0_move_40 (lv_at hl 0 rfl) ?_
        obtain ⟨b58, hr0, hw⟩ := hw
        subst hr0
        obtain ⟨fs0, g59, hM0, hx0, hw⟩ := hw
        refine z_getN hC hZ hM0 zc7 0 (by decide) q395 (fun _ h9 => h9) hx0 dX0_move_42 ?_
        refine z_ifnonnull (tgt := 51) hC dX0_move_45 (by decide) (fun b60 hr0 => ?_) (fun hr0 => ?_)
        · replace hw := hw.1 b60 hr0
          subst hr0
          refine lv_aload hx hb dX0_move_51 (lv_at hl 1 rfl) ?_
          obtain ⟨⟨ci0, fs0, hci0, hM0⟩, hw⟩ := hw
          obtain rfl : ci0 = 7 := List.mem_singleton.mp hci0
          refine z_callI hZ (vx_runV (As := []) (rest := []) hC.fix (w_X8_sort hlt hw) (cwV 0 hts (lw_V q1706 q1707 q1708 q82 q1709) rfl rfl rfl ⟨rfl, dd_X8_sort⟩ ⟨Nat.le_of_ble_eq_true rfl, Nat.le_of_ble_eq_true rfl⟩) (z_preV hC hZ hM0 zc7) rfl rfl hl.1 rfl (lv_room (Nat.zero_le _)) dX0_move_53 ⟨hk, hn⟩) (fun r61 M H locs hw1 hZ => ?_) (fun q M H locs ci fs E T9 N9 hw hZ hc1 hM1 hb1 => False.elim hw)
          replace hw := hw1
          clear hw1
          refine W.cs (cells' := cells) (slots' := slots) rfl rfl ?_
          refine lv_aload hx hb dX0_move_56 (lv_at hl 0 rfl) ?_
          obtain ⟨⟨ci0, fs0, hci0, hM0⟩, hw⟩ := hw
          obtain rfl : ci0 = 7 := List.mem_singleton.mp hci0
          refine z_callI hZ (vx_runV (As := []) (rest := [.int r61]) hC.fix (w_X8_sort hlt hw) (cwV 0 hts (lw_V q1706 q1707 q1708 q82 q1709) rfl rfl rfl ⟨rfl, dd_X8_sort⟩ ⟨Nat.le_of_ble_eq_true rfl, Nat.le_of_ble_eq_true rfl⟩) (z_preV hC hZ hM0 zc7) rfl rfl hl.1 rfl (lv_room (Nat.le_trans (zrm1 rfl zrm0) (Nat.le_of_ble_eq_true rfl))) dX0_move_58 ⟨hk, hn⟩) (fun r64 M H locs hw1 hZ => ?_) (fun q M H locs ci fs E T9 N9 hw hZ hc1 hM1 hb1 => False.elim hw)
          replace hw := hw1
          clear hw1
          refine W.cs (cells' := cells) (slots' := slots) rfl rfl ?_
          refine lv_icmp_eq (tgt := 67) hx hb dX0_move_61 (by decide) (fun c82 => ?_) (fun c82 => ?_)
          · replace hw := hw.1 c82
            refine lv_iload hx hb dX0_move_67 (lv_at hl 7 rfl) ?_
            refine lv_if_lt (tgt := 106) hx hb dX0_move_69 (by decide) (fun c81 => ?_) (fun c81 => ?_)
            · replace hw := hw.1 c81
              exact wk_X0_move_L106 hG _ hk hn hZ (lv_sub hl [] rfl) hw
            · replace hw := hw.2 c81
              refine lv_iload_n hx hb dX0_move_72 rfl (lv_at hl 4 rfl) ?_
              refine lv_if_lt (tgt := 106) hx hb dX0_move_73 (by decide) (fun c80 => ?_) (fun c80 => ?_)
              · replace hw := hw.1 c80
                exact wk_X0_move_L106 hG _ hk hn hZ (lv_sub hl [] rfl) hw
              · replace hw := hw.2 c80
                refine lv_iload hx hb dX0_move_76 (lv_at hl 6 rfl) ?_
                refine lv_if_lt (tgt := 106) hx hb dX0_move_78 (by decide) (fun c79 => ?_) (fun c79 => ?_)
                · replace hw := hw.1 c79
                  exact wk_X0_move_L106 hG _ hk hn hZ (lv_sub hl [] rfl) hw
                · replace hw := hw.2 c79
                  refine lv_iload hx hb dX0_move_81 (lv_at hl 7 rfl) ?_
                  refine lv_aload hx hb dX0_move_83 (lv_at hl 1 rfl) ?_
                  obtain ⟨⟨ci0, fs0, hci0, hM0⟩, hw⟩ := hw
                  obtain rfl : ci0 = 7 := List.mem_singleton.mp hci0
                  refine z_callI hZ (vx_runV (As := []) (rest := [.int a4]) hC.fix (w_X8_size hlt hw) (cwV 0 hts (lw_V q1649 q1650 q1651 q82 q1652) rfl rfl rfl ⟨rfl, dd_X8_size⟩ ⟨Nat.le_of_ble_eq_true rfl, Nat.le_of_ble_eq_true rfl⟩) (z_preV hC hZ hM0 zc7) rfl rfl hl.1 rfl (lv_room (Nat.le_trans (zrm1 rfl zrm0) (Nat.le_of_ble_eq_true rfl))) dX0_move_85 ⟨hk, hn⟩) (fun r67 M H locs hw1 hZ => ?_) (fun q M H locs ci fs E T9 N9 hw hZ hc1 hM1 hb1 => False.elim hw)
                  replace hw := hw1
                  clear hw1
                  refine W.cs (cells' := cells) (slots' := slots) rfl rfl ?_
                  refine lv_iload_n hx hb dX0_move_88 rfl (lv_at hl 4 rfl) ?_
                  refine lv_isub hx hb dX0_move_89 ?_
                  refine lv_icmp_gt (tgt := 106) hx hb dX0_move_90 (by decide) (fun c78 => ?_) (fun c78 => ?_)
                  · replace hw := hw.1 c78
                    exact wk_X0_move_L106 hG _ hk hn hZ (lv_sub hl [] rfl) hw
                  · replace hw := hw.2 c78
                    refine lv_iload hx hb dX0_move_93 (lv_at hl 7 rfl) ?_
                    refine lv_aload hx hb dX0_move_95 (lv_at hl 0 rfl) ?_
                    obtain ⟨⟨ci0, fs0, hci0, hM0⟩, hw⟩ := hw
                    obtain rfl : ci0 = 7 := List.mem_singleton.mp hci0
                    refine z_callI hZ (vx_runV (As := []) (rest := [.int a4]) hC.fix (w_X8_size hlt hw) (cwV 0 hts (lw_V q1649 q1650 q1651 q82 q1652) rfl rfl rfl ⟨rfl, dd_X8_size⟩ ⟨Nat.le_of_ble_eq_true rfl, Nat.le_of_ble_eq_true rfl⟩) (z_preV hC hZ hM0 zc7) rfl rfl hl.1 rfl (lv_room (Nat.le_trans (zrm1 rfl zrm0) (Nat.le_of_ble_eq_true rfl))) dX0_move_97 ⟨hk, hn⟩) (fun r70 M H locs hw1 hZ => ?_) (fun q M H locs ci fs E T9 N9 hw hZ hc1 hM1 hb1 => False.elim hw)
                    replace hw := hw1
                    clear hw1
                    refine W.cs (cells' := cells) (slots' := slots) rfl rfl ?_
                    refine lv_iload hx hb dX0_move_100 (lv_at hl 6 rfl) ?_
                    refine lv_isub hx hb dX0_move_102 ?_
                    refine lv_icmp_le (tgt := 109) hx hb dX0_move_103 (by decide) (fun c77 => ?_) (fun c77 => ?_)
                    · replace hw := hw.1 c77
                      refine lv_aload hx hb dX0_move_109 (lv_at hl 1 rfl) ?_
                      obtain ⟨fs0, g73, hM0, hx0, hw⟩ := hw
                      refine z_getN hC hZ hM0 zc7 0 (by decide) q395 (fun _ h9 => h9) hx0 dX0_move_111 ?_
                      refine lv_iload_n hx hb dX0_move_114 rfl (lv_at hl 4 rfl) ?_
                      refine lv_aload hx hb dX0_move_115 (lv_at hl 0 rfl) ?_
                      obtain ⟨fs0, g74, hM0, hx0, hw⟩ := hw
                      refine z_getN hC hZ hM0 zc7 0 (by decide) q395 (fun _ h9 => h9) hx0 dX0_move_117 ?_
                      refine lv_iload hx hb dX0_move_120 (lv_at hl 6 rfl) ?_
                      refine lv_iload hx hb dX0_move_122 (lv_at hl 7 rfl) ?_
                      obtain ⟨b75, hr0, hw⟩ := hw
                      subst hr0
                      obtain ⟨b76, hr0, hw⟩ := hw
                      subst hr0
                      rcases hw with hw | hw | hw
                      · refine z_copy2 hC hZ hl.1 hw q1601 q284 q283 q77 (Nat.le_of_ble_eq_true rfl) (z_nat (Nat.le_trans zrm0 (Nat.le_of_ble_eq_true rfl)) (Nat.le_of_ble_eq_true rfl)) dX0_move_124 (fun M H locs hw1 hZ => ?_)
                        replace hw := hw1
                        clear hw1
                        refine lv_iload hx hb dX0_move_127 (lv_at hl 7 rfl) ?_
                        exact z_iret hG hZ hk hn hw dX0_move_129
                      · refine z_copy3 hC hZ hl.1 hw q1601 q284 q283 q77 (Nat.le_of_ble_eq_true rfl) (z_nat (Nat.le_trans zrm0 (Nat.le_of_ble_eq_true rfl)) (Nat.le_of_ble_eq_true rfl)) dX0_move_124 (fun M H locs hw1 hZ => ?_)
                        replace hw := hw1
                        clear hw1
                        refine lv_iload hx hb dX0_move_127 (lv_at hl 7 rfl) ?_
                        exact z_iret hG hZ hk hn hw dX0_move_129
                      · refine z_copy4 hC hZ hl.1 hw q1601 q284 q283 q77 (Nat.le_of_ble_eq_true rfl) (z_nat (Nat.le_trans zrm0 (Nat.le_of_ble_eq_true rfl)) (Nat.le_of_ble_eq_true rfl)) dX0_move_124 (fun M H locs hw1 hZ => ?_)
                        replace hw := hw1
                        clear hw1
                        refine lv_iload hx hb dX0_move_127 (lv_at hl 7 rfl) ?_
                        exact z_iret hG hZ hk hn hw dX0_move_129
                    · replace hw := hw.2 c77
                      exact wk_X0_move_L106 hG _ hk hn hZ (lv_sub hl [] rfl) hw
          · replace hw := hw.2 c82
            refine lv_bipush (v := (-13)) hx hb dX0_move_64 (by decide) ?_
            exact z_iret hG hZ hk hn hw dX0_move_66
        · replace hw := hw.2 hr0
          exact wk_X0_move_L48 hG _ hk hn hZ (lv_sub hl [] rfl) hw
    · replace hw := hw.2 c83
      exact wk_X0_move_L14 hG _ hk hn hZ (lv_sub hl [] rfl) hw
abbrev rm_X0_need (K N : Nat) : Room := { frames := 5, cells := K, slots := N, locals := 157 }
def wp_X0_need (D : zD) (post : Unit → zM → Prop) (xp : Nat → zM → Prop) (k : Nat) (n : Nat) (a0 : Int32) (a1 : Int32) (M : zM) : Prop :=
    ((¬ a0 = 0 → post () M) ∧ (a0 = 0 → (znew D M 13 7 [.null, .null, .null, .null, .null, .int 0, .int 0] k n fun b1 M => (wp_X15_init D (fun _ M => (zth D M b1 ∧ xp b1 M)) b1 a1 M))))
set_option maxHeartbeats 4000000 in
set_option maxRecDepth 100000 in
theorem w_X0_need {l : Launch} {D : zD} {post : Unit → zM → Prop} {xp : Nat → zM → Prop} (hlt : l.stackTraces = false) {k : Nat} {n : Nat} {a0 : Int32} {a1 : Int32} {M : zM} (hw : wp_X0_need D post xp k n a0 a1 M) : zMet l D yX0_need (ws_ yX0_need cX0_need 2 (none)) (rm_X0_need k n) k n [.int a0, .int a1] M zU post xp := by
  unfold wp_X0_need at hw
  have hlv : lv_args 0 [.int a0, .int a1] = [(0, .int a0), (1, .int a1)] := (zargs1 rfl (zargs1 rfl rfl))
  refine z_ofW hlt (by decide) (Nat.le_trans (zsl1 rfl (zsl1 rfl (Nat.le_refl 0 : (lg_sl []).length ≤ 0))) (Nat.le_of_ble_eq_true rfl)) hlv ?_
  intro p e s m args below meth c ls hG hZ hl
  have hC := hG.1
  have hx := hC.x
  have hb := hC.b
  have hown := hC.o
  have hts := hC.ts
  have hlt := hG.2.2.2.2.2
  obtain ⟨cells, hce⟩ : ∃ z : Nat, z = 0 := ⟨0, rfl⟩
  obtain ⟨slots, hsl⟩ : ∃ z : Nat, z = 0 := ⟨0, rfl⟩
  refine W.cs (cells' := cells) (slots' := slots) hce.symm hsl.symm ?_
  have hk : cells + k ≤ k := by omega
  have hn : slots + n ≤ n := by omega
  clear hce hsl
  refine lv_iload_n hx hb dX0_need_0 rfl (lv_at hl 0 rfl) ?_
  refine lv_if_ne (tgt := 13) hx hb dX0_need_1 (by decide) (fun c10 => ?_) (fun c10 => ?_)
  · replace hw := hw.1 c10
    exact z_vret hG hZ (by omega) (by omega) hw dX0_need_13
  · replace hw := hw.2 c10
    obtain ⟨hk1, hn1, hw⟩ := hw
    refine z_new (fs := [.null, .null, .null, .null, .null, .int 0, .int 0]) hC hZ zc13 q527 q649 q94 (zdefs (N := 7) (ty := tyX15) (fs := [.null, .null, .null, .null, .null, .int 0, .int 0]) (by decide)) (show cells + 1 ≤ k by omega) (show slots + 7 ≤ n by omega) dX0_need_4 (fun b6 H hq0 hq1 hZ => ?_)
    replace hw := hw b6 hq0 hq1
    generalize zu M _ _ = M at hw hZ
    have hk : cells + 1 + (k - 1) ≤ k := by omega
    have hn : slots + 7 + (n - 7) ≤ n := by omega
    generalize cells + 1 = cells at hk ⊢
    generalize slots + 7 = slots at hn ⊢
    clear hk1 hn1
    refine lv_dup hx hb dX0_need_7 rfl ?_
    refine lv_iload_n hx hb dX0_need_8 rfl (lv_at hl 1 rfl) ?_
    refine z_callU hZ (vx_runI (As := [.int a1]) (rest := [.ref b6]) hC.fix (w_X15_init hlt hw) (cwI 1 hts (lw_meth q691) rfl rfl rfl (hts _ q94) (hts _ q1004) (hts _ q690) rfl dd_X15_init ⟨Nat.le_of_ble_eq_true rfl, Nat.le_of_ble_eq_true rfl⟩) (z_preS hC hZ) rfl rfl hl.1 rfl (lv_room (Nat.le_trans (zrm1 rfl zrm0) (Nat.le_of_ble_eq_true rfl))) dX0_need_9 ⟨(show cells + 0 ≤ k by omega), (show slots + 0 ≤ n by omega)⟩) (fun r7 M H locs hw1 hZ => ?_) (fun q M H locs ci fs E T9 N9 hw hZ hc1 hM1 hb1 => False.elim hw)
    replace hw := hw1
    clear hw1
    refine W.cs (cells' := cells) (slots' := slots) rfl rfl ?_
    obtain ⟨⟨ci0, fs0, hci0, hM0, hb0⟩, hw⟩ := hw
    obtain ⟨E0, T0, N0, hc0⟩ := z_cl hci0
    refine vx_athrow hx hb dX0_need_12 ?_
    exact z_out hG hZ hM0 hb0 hc0 za0 (by omega) (by omega) hw
abbrev rm_X0_operand (K N : Nat) : Room := { frames := 3, cells := K, slots := N, locals := 111 }
def wp_X0_operand_L38 (D : zD) (post : Int64 → zM → Prop) (o : Nat) (k : Nat) (n : Nat) (y0 : Int64) (M : zM) : Prop :=
    post y0 M
set_option maxHeartbeats 4000000 in
set_option maxRecDepth 100000 in
theorem wk_X0_operand_L38 {p : Program} {l : Launch} {e : Env} {s : State} {m : MethodId} {args : Array Value} {below : List Frame} {meth : Method} {c : Code} {D : zD} {post : Int64 → zM → Prop} {K N : Nat} {o : Nat} (hG : zGx p l s m args meth c cX0_operand 4 "PluralBranches" D (some .long) "operand" []) : ∀ {H : Heap} {locs : List Loc} {cells slots : Nat} {ls : Array Slot} (k : Nat) (n : Nat) (y0 : Int64) (M : zM), cells + k ≤ K → slots + n ≤ N → zS D M H locs → lv_has ls 4 [] → wp_X0_operand_L38 D post o k n y0 M → W p l e (rm_X0_operand K N) s m args below meth c H locs cells slots (vx_MQ below (zQ D zL post) (zX D (fun _ _ => False)) args s K N (zA D)) (F0 m 38 ls [.long y0]) := by
  have hC := hG.1
  have hx := hC.x
  have hb := hC.b
  have hown := hC.o
  have hts := hC.ts
  have hlt := hG.2.2.2.2.2
  intro H locs cells slots ls k n y0 M hk hn hZ hl hw
  exact z_lret hG hZ (by omega) (by omega) hw dX0_operand_38
def wp_X0_operand_L35 (D : zD) (post : Int64 → zM → Prop) (o : Nat) (k : Nat) (n : Nat) (M : zM) : Prop :=
    wp_X0_operand_L38 D post o k n (-9223372036854775808 : Int64) M
set_option maxHeartbeats 4000000 in
set_option maxRecDepth 100000 in
theorem wk_X0_operand_L35 {p : Program} {l : Launch} {e : Env} {s : State} {m : MethodId} {args : Array Value} {below : List Frame} {meth : Method} {c : Code} {D : zD} {post : Int64 → zM → Prop} {K N : Nat} {o : Nat} (hG : zGx p l s m args meth c cX0_operand 4 "PluralBranches" D (some .long) "operand" []) : ∀ {H : Heap} {locs : List Loc} {cells slots : Nat} {ls : Array Slot} (k : Nat) (n : Nat) (M : zM), cells + k ≤ K → slots + n ≤ N → zS D M H locs → lv_has ls 4 [] → wp_X0_operand_L35 D post o k n M → W p l e (rm_X0_operand K N) s m args below meth c H locs cells slots (vx_MQ below (zQ D zL post) (zX D (fun _ _ => False)) args s K N (zA D)) (F0 m 35 ls []) := by
  have hC := hG.1
  have hx := hC.x
  have hb := hC.b
  have hown := hC.o
  have hts := hC.ts
  have hlt := hG.2.2.2.2.2
  intro H locs cells slots ls k n M hk hn hZ hl hw
  refine lv_ldc2 hx hb hown (hts _ q442) dX0_operand_35 ?_
  exact wk_X0_operand_L38 hG _ _ _ _ hk hn hZ (lv_sub hl [] rfl) hw
def wp_X0_operand (D : zD) (post : Int64 → zM → Prop) (k : Nat) (n : Nat) (o : Nat) (a0 : Int32) (a1 : Int32) (a2 : Int32) (M : zM) : Prop :=
    (wp_X0_isScale D (fun r1 M => ((r1 = 0 → wp_X0_operand_L35 D post o k n M) ∧ (¬ r1 = 0 → (wp_X0_in D (fun r4 M => ((r4 = 0 → wp_X0_operand_L35 D post o k n M) ∧ (¬ r4 = 0 → (znew D M 1 6 [.int 0, .int 0, .long 0, .long 0, .int 0, .long 0] k n fun b7 M => (wp_X1_init_2 D (fun _ M => ((zis M b7 [1] ∧ wp_X1_operand D (fun r11 M => wp_X0_operand_L38 D post o (k - 1) (n - 6) r11 M) b7 a2 M))) b7 a0 a1 M))))) (a2.toInt64) (0 : Int64) (4 : Int64) M)))) a1 M)
set_option maxHeartbeats 4000000 in
set_option maxRecDepth 100000 in
theorem w_X0_operand {l : Launch} {D : zD} {post : Int64 → zM → Prop} (hlt : l.stackTraces = false) {k : Nat} {n : Nat} {o : Nat} {a0 : Int32} {a1 : Int32} {a2 : Int32} {M : zM} (hw : wp_X0_operand D post k n o a0 a1 a2 M) : zMet l D yX0_operand (ws_ yX0_operand cX0_operand 4 (some .long)) (rm_X0_operand k n) k n [.ref o, .int a0, .int a1, .int a2] M zL post (fun _ _ => False) := by
  unfold wp_X0_operand at hw
  have hlv : lv_args 0 [.ref o, .int a0, .int a1, .int a2] = [(0, .ref o), (1, .int a0), (2, .int a1), (3, .int a2)] := (zargs1 rfl (zargs1 rfl (zargs1 rfl (zargs1 rfl rfl))))
  refine z_ofW hlt (by decide) (Nat.le_trans (zsl1 rfl (zsl1 rfl (zsl1 rfl (zsl1 rfl (Nat.le_refl 0 : (lg_sl []).length ≤ 0))))) (Nat.le_of_ble_eq_true rfl)) hlv ?_
  intro p e s m args below meth c ls hG hZ hl
  have hC := hG.1
  have hx := hC.x
  have hb := hC.b
  have hown := hC.o
  have hts := hC.ts
  have hlt := hG.2.2.2.2.2
  obtain ⟨cells, hce⟩ : ∃ z : Nat, z = 0 := ⟨0, rfl⟩
  obtain ⟨slots, hsl⟩ : ∃ z : Nat, z = 0 := ⟨0, rfl⟩
  refine W.cs (cells' := cells) (slots' := slots) hce.symm hsl.symm ?_
  have hk : cells + k ≤ k := by omega
  have hn : slots + n ≤ n := by omega
  clear hce hsl
  refine lv_iload_n hx hb dX0_operand_0 rfl (lv_at hl 2 rfl) ?_
  refine z_callI hZ (vx_runS (As := [.int a1]) (rest := []) hC.fix (w_X0_isScale hlt hw) (va_cwS 1 hts (lw_S q430 q431 q67 q432) rfl rfl rfl dd_X0_isScale ⟨Nat.le_of_ble_eq_true rfl, Nat.le_of_ble_eq_true rfl⟩) (z_preS hC hZ) rfl rfl hl.1 rfl (lv_room (Nat.zero_le _)) dX0_operand_1 ⟨(show cells + 0 ≤ k by omega), (show slots + 0 ≤ n by omega)⟩) (fun r16 M H locs hw1 hZ => ?_) (fun q M H locs ci fs E T9 N9 hw hZ hc1 hM1 hb1 => False.elim hw)
  replace hw := hw1
  clear hw1
  refine W.cs (cells' := cells) (slots' := slots) rfl rfl ?_
  refine lv_if_eq (tgt := 35) hx hb dX0_operand_4 (by decide) (fun c30 => ?_) (fun c30 => ?_)
  · replace hw := hw.1 c30
    exact wk_X0_operand_L35 hG _ _ _ hk hn hZ (lv_sub hl [] rfl) hw
  · replace hw := hw.2 c30
    refine lv_iload_n hx hb dX0_operand_7 rfl (lv_at hl 3 rfl) ?_
    refine lv_i2l hx hb dX0_operand_8 rfl ?_
    refine lv_lconst (v := 0) hx hb dX0_operand_9 (by decide) ?_
    refine lv_ldc2 hx hb hown (hts _ q437) dX0_operand_10 ?_
    refine z_callI hZ (vx_runS (As := [.long (a2.toInt64), .long (0 : Int64), .long (4 : Int64)]) (rest := []) hC.fix (w_X0_in hlt hw) (va_cwS 3 hts (lw_S q434 q435 q67 q436) rfl rfl rfl dd_X0_in ⟨Nat.le_of_ble_eq_true rfl, Nat.le_of_ble_eq_true rfl⟩) (z_preS hC hZ) rfl rfl hl.1 rfl (lv_room (Nat.zero_le _)) dX0_operand_13 ⟨(show cells + 0 ≤ k by omega), (show slots + 0 ≤ n by omega)⟩) (fun r19 M H locs hw1 hZ => ?_) (fun q M H locs ci fs E T9 N9 hw hZ hc1 hM1 hb1 => False.elim hw)
    replace hw := hw1
    clear hw1
    refine W.cs (cells' := cells) (slots' := slots) rfl rfl ?_
    refine lv_if_eq (tgt := 35) hx hb dX0_operand_16 (by decide) (fun c29 => ?_) (fun c29 => ?_)
    · replace hw := hw.1 c29
      exact wk_X0_operand_L35 hG _ _ _ hk hn hZ (lv_sub hl [] rfl) hw
    · replace hw := hw.2 c29
      obtain ⟨hk1, hn1, hw⟩ := hw
      refine z_new (fs := [.int 0, .int 0, .long 0, .long 0, .int 0, .long 0]) hC hZ zc1 q128 q130 q68 (zdefs (N := 6) (ty := tyX1) (fs := [.int 0, .int 0, .long 0, .long 0, .int 0, .long 0]) (by decide)) (show cells + 1 ≤ k by omega) (show slots + 6 ≤ n by omega) dX0_operand_19 (fun b22 H hq0 hq1 hZ => ?_)
      replace hw := hw b22 hq0 hq1
      generalize zu M _ _ = M at hw hZ
      have hk : cells + 1 + (k - 1) ≤ k := by omega
      have hn : slots + 6 + (n - 6) ≤ n := by omega
      generalize cells + 1 = cells at hk ⊢
      generalize slots + 6 = slots at hn ⊢
      clear hk1 hn1
      refine lv_dup hx hb dX0_operand_22 rfl ?_
      refine lv_iload_n hx hb dX0_operand_23 rfl (lv_at hl 1 rfl) ?_
      refine lv_iload_n hx hb dX0_operand_24 rfl (lv_at hl 2 rfl) ?_
      refine z_callU hZ (vx_runI (As := [.int a0, .int a1]) (rest := [.ref b22]) hC.fix (w_X1_init_2 hlt hw) (cwI 2 hts (lw_meth q136) rfl rfl rfl (hts _ q68) (hts _ q176) (hts _ q135) rfl dd_X1_init_2 ⟨Nat.le_of_ble_eq_true rfl, Nat.le_of_ble_eq_true rfl⟩) (z_preS hC hZ) rfl rfl hl.1 rfl (lv_room (Nat.le_trans (zrm1 rfl zrm0) (Nat.le_of_ble_eq_true rfl))) dX0_operand_25 ⟨(show cells + 0 ≤ k by omega), (show slots + 0 ≤ n by omega)⟩) (fun r23 M H locs hw1 hZ => ?_) (fun q M H locs ci fs E T9 N9 hw hZ hc1 hM1 hb1 => False.elim hw)
      replace hw := hw1
      clear hw1
      refine W.cs (cells' := cells) (slots' := slots) rfl rfl ?_
      refine lv_iload_n hx hb dX0_operand_28 rfl (lv_at hl 3 rfl) ?_
      obtain ⟨⟨ci0, fs0, hci0, hM0⟩, hw⟩ := hw
      obtain rfl : ci0 = 1 := List.mem_singleton.mp hci0
      refine z_callL hZ (vx_runV (As := [.int a2]) (rest := []) hC.fix (w_X1_operand hlt hw) (cwV 1 hts (lw_V q438 q439 q440 q68 q441) rfl rfl rfl ⟨rfl, dd_X1_operand⟩ ⟨Nat.le_of_ble_eq_true rfl, Nat.le_of_ble_eq_true rfl⟩) (z_preV hC hZ hM0 zc1) rfl rfl hl.1 rfl (lv_room (Nat.zero_le _)) dX0_operand_29 ⟨(show cells + 0 ≤ k by omega), (show slots + 0 ≤ n by omega)⟩) (fun r26 M H locs hw1 hZ => ?_) (fun q M H locs ci fs E T9 N9 hw hZ hc1 hM1 hb1 => False.elim hw)
      replace hw := hw1
      clear hw1
      refine W.cs (cells' := cells) (slots' := slots) rfl rfl ?_
      refine lv_goto (tgt := 38) hx hb dX0_operand_32 (by decide) ?_
      exact wk_X0_operand_L38 hG _ _ _ _ hk hn hZ (lv_sub hl [] rfl) hw
abbrev rm_X0_out : Room := { frames := 2, cells := 0, slots := 0, locals := 89 }
def wp_X0_out_L27 (D : zD) (post : Int32 → zM → Prop) (o : Nat) (y0 : Int32) (M : zM) : Prop :=
    post y0 M
set_option maxHeartbeats 4000000 in
set_option maxRecDepth 100000 in
theorem wk_X0_out_L27 {p : Program} {l : Launch} {e : Env} {s : State} {m : MethodId} {args : Array Value} {below : List Frame} {meth : Method} {c : Code} {D : zD} {post : Int32 → zM → Prop} {o : Nat} (hG : zGx p l s m args meth c cX0_out 2 "PluralBranches" D (some .int) "out" []) : ∀ {H : Heap} {locs : List Loc} {cells slots : Nat} {ls : Array Slot} (y0 : Int32) (M : zM), cells ≤ 0 → slots ≤ 0 → zS D M H locs → lv_has ls 2 [] → wp_X0_out_L27 D post o y0 M → W p l e rm_X0_out s m args below meth c H locs cells slots (vx_MQ below (zQ D zI post) (zX D (fun _ _ => False)) args s 0 0 (zA D)) (F0 m 27 ls [.int y0]) := by
  have hC := hG.1
  have hx := hC.x
  have hb := hC.b
  have hown := hC.o
  have hts := hC.ts
  have hlt := hG.2.2.2.2.2
  intro H locs cells slots ls y0 M hk hn hZ hl hw
  exact z_iret hG hZ hk hn hw dX0_out_27
def wp_X0_out (D : zD) (post : Int32 → zM → Prop) (o : Nat) (a0 : Int32) (M : zM) : Prop :=
    (zgI M o 0 2 fun g1 => (wp_X0_in D (fun r2 M => ((r2 = 0 → wp_X0_out_L27 D post o (-2 : Int32) M) ∧ (¬ r2 = 0 → (zgR M o 0 1 fun g5 => ((zd g5 fun b6 => zaI M b6 1 a0 fun v7 => wp_X0_out_L27 D post o v7 M)))))) (a0.toInt64) (0 : Int64) ((g1 - (1 : Int32)).toInt64) M))
set_option maxHeartbeats 4000000 in
set_option maxRecDepth 100000 in
theorem w_X0_out {l : Launch} {D : zD} {post : Int32 → zM → Prop} (hlt : l.stackTraces = false) {o : Nat} {a0 : Int32} {M : zM} (hw : wp_X0_out D post o a0 M) : zMet l D yX0_out (ws_ yX0_out cX0_out 2 (some .int)) rm_X0_out 0 0 [.ref o, .int a0] M zI post (fun _ _ => False) := by
  unfold wp_X0_out at hw
  have hlv : lv_args 0 [.ref o, .int a0] = [(0, .ref o), (1, .int a0)] := (zargs1 rfl (zargs1 rfl rfl))
  refine z_ofW hlt (by decide) (Nat.le_trans (zsl1 rfl (zsl1 rfl (Nat.le_refl 0 : (lg_sl []).length ≤ 0))) (Nat.le_of_ble_eq_true rfl)) hlv ?_
  intro p e s m args below meth c ls hG hZ hl
  have hC := hG.1
  have hx := hC.x
  have hb := hC.b
  have hown := hC.o
  have hts := hC.ts
  have hlt := hG.2.2.2.2.2
  obtain ⟨cells, hce⟩ : ∃ z : Nat, z = 0 := ⟨0, rfl⟩
  obtain ⟨slots, hsl⟩ : ∃ z : Nat, z = 0 := ⟨0, rfl⟩
  refine W.cs (cells' := cells) (slots' := slots) hce.symm hsl.symm ?_
  have hk : cells ≤ 0 := Nat.le_of_eq hce
  have hn : slots ≤ 0 := Nat.le_of_eq hsl
  clear hce hsl
  refine lv_iload_n hx hb dX0_out_0 rfl (lv_at hl 1 rfl) ?_
  refine lv_i2l hx hb dX0_out_1 rfl ?_
  refine lv_lconst (v := 0) hx hb dX0_out_2 (by decide) ?_
  refine lv_aload_n hx hb dX0_out_3 rfl (lv_at hl 0 rfl) ?_
  obtain ⟨fs0, g9, hM0, hx0, hw⟩ := hw
  refine z_get hC hZ hM0 zc0 2 (by decide) q401 (fun _ h9 => h9) hx0 dX0_out_4 ?_
  refine lv_iconst (v := 1) hx hb dX0_out_7 (by decide) ?_
  refine lv_isub hx hb dX0_out_8 ?_
  refine lv_i2l hx hb dX0_out_9 rfl ?_
  refine z_callI hZ (vx_runS (As := [.long (a0.toInt64), .long (0 : Int64), .long ((g9 - (1 : Int32)).toInt64)]) (rest := []) hC.fix (w_X0_in hlt hw) (va_cwS 3 hts (lw_S q434 q435 q67 q436) rfl rfl rfl dd_X0_in ⟨Nat.le_of_ble_eq_true rfl, Nat.le_of_ble_eq_true rfl⟩) (z_preS hC hZ) rfl rfl hl.1 rfl (lv_room (Nat.zero_le _)) dX0_out_10 ⟨hk, hn⟩) (fun r10 M H locs hw1 hZ => ?_) (fun q M H locs ci fs E T9 N9 hw hZ hc1 hM1 hb1 => False.elim hw)
  replace hw := hw1
  clear hw1
  refine W.cs (cells' := cells) (slots' := slots) rfl rfl ?_
  refine lv_if_eq (tgt := 25) hx hb dX0_out_13 (by decide) (fun c16 => ?_) (fun c16 => ?_)
  · replace hw := hw.1 c16
    refine lv_bipush (v := (-2)) hx hb dX0_out_25 (by decide) ?_
    exact wk_X0_out_L27 hG _ _ hk hn hZ (lv_sub hl [] rfl) hw
  · replace hw := hw.2 c16
    refine lv_aload_n hx hb dX0_out_16 rfl (lv_at hl 0 rfl) ?_
    obtain ⟨fs0, g13, hM0, hx0, hw⟩ := hw
    refine z_get hC hZ hM0 zc0 1 (by decide) q400 (fun _ h9 => h9) hx0 dX0_out_17 ?_
    refine lv_iload_n hx hb dX0_out_20 rfl (lv_at hl 1 rfl) ?_
    obtain ⟨b14, hr0, hw⟩ := hw
    subst hr0
    obtain ⟨n0, f0, hM0, hi0, hw⟩ := hw
    refine z_bald hC hZ hM0 hi0 dX0_out_21 ?_
    generalize f0 _ = v15 at hw ⊢
    refine lv_goto (tgt := 27) hx hb dX0_out_22 (by decide) ?_
    exact wk_X0_out_L27 hG _ _ hk hn hZ (lv_sub hl [] rfl) hw
abbrev rm_X0_plain : Room := { frames := 2, cells := 0, slots := 0, locals := 87 }
def wp_X0_plain (D : zD) (post : Int32 → zM → Prop) (o : Nat) (M : zM) : Prop :=
    (zgR M o 0 0 fun g1 => ((zd g1 fun b2 => zaR M b2 6 (6 : Int32) fun v3 => ((zd v3 fun b4 => zgRm M b4 [(2, 0), (4, 0), (5, 0), (6, 0)] fun g5 => ((zd g5 fun b6 => (zis M b6 [26] ∧ wp_J3_size D (fun r7 M => (zgR M o 0 0 fun g10 => ((zd g10 fun b11 => zaR M b11 6 (6 : Int32) fun v12 => ((zd v12 fun b13 => zgRm M b13 [(2, 0), (4, 0), (5, 0), (6, 0)] fun g14 => ((zd g14 fun b15 => (zis M b15 [26] ∧ wp_J3_clear D (fun _ M => post r7 M) b15 M))))))))) b6 M))))))))
set_option maxHeartbeats 4000000 in
set_option maxRecDepth 100000 in
theorem w_X0_plain {l : Launch} {D : zD} {post : Int32 → zM → Prop} (hlt : l.stackTraces = false) {o : Nat} {M : zM} (hw : wp_X0_plain D post o M) : zMet l D yX0_plain (ws_ yX0_plain cX0_plain 2 (some .int)) rm_X0_plain 0 0 [.ref o] M zI post (fun _ _ => False) := by
  unfold wp_X0_plain at hw
  have hlv : lv_args 0 [.ref o] = [(0, .ref o)] := (zargs1 rfl rfl)
  refine z_ofW hlt (by decide) (Nat.le_trans (zsl1 rfl (Nat.le_refl 0 : (lg_sl []).length ≤ 0)) (Nat.le_of_ble_eq_true rfl)) hlv ?_
  intro p e s m args below meth c ls hG hZ hl
  have hC := hG.1
  have hx := hC.x
  have hb := hC.b
  have hown := hC.o
  have hts := hC.ts
  have hlt := hG.2.2.2.2.2
  obtain ⟨cells, hce⟩ : ∃ z : Nat, z = 0 := ⟨0, rfl⟩
  obtain ⟨slots, hsl⟩ : ∃ z : Nat, z = 0 := ⟨0, rfl⟩
  refine W.cs (cells' := cells) (slots' := slots) hce.symm hsl.symm ?_
  have hk : cells ≤ 0 := Nat.le_of_eq hce
  have hn : slots ≤ 0 := Nat.le_of_eq hsl
  clear hce hsl
  refine lv_aload_n hx hb dX0_plain_0 rfl (lv_at hl 0 rfl) ?_
  obtain ⟨fs0, g19, hM0, hx0, hw⟩ := hw
  refine z_get hC hZ hM0 zc0 0 (by decide) q399 (fun _ h9 => h9) hx0 dX0_plain_1 ?_
  refine lv_bipush (v := 6) hx hb dX0_plain_4 (by decide) ?_
  obtain ⟨b20, hr0, hw⟩ := hw
  subst hr0
  obtain ⟨n0, f0, v21, hM0, hi0, hr0, hw⟩ := hw
  refine z_aald hC hZ hM0 (by decide) rfl hi0 hr0 dX0_plain_6 ?_
  obtain ⟨b22, hr0, hw⟩ := hw
  subst hr0
  obtain ⟨q0, fs0, g23, hL0, hM0, hx0, hw⟩ := hw
  refine z_getm hC hZ hM0 (L := [(2, 0), (4, 0), (5, 0), (6, 0)]) (ref := "PluralBranches$Language") (index := 125) (zal (⟨_, _, _, _, zc2, by decide, q289, (fun _ h9 => h9)⟩) (zal (⟨_, _, _, _, zc4, by decide, q289, (fun _ h9 => h9)⟩) (zal (⟨_, _, _, _, zc5, by decide, q289, (fun _ h9 => h9)⟩) (zal (⟨_, _, _, _, zc6, by decide, q289, (fun _ h9 => h9)⟩) (za0))))) hL0 hx0 dX0_plain_7 ?_
  obtain ⟨b24, hr0, hw⟩ := hw
  subst hr0
  obtain ⟨⟨ci0, fs0, hci0, hM0⟩, hw⟩ := hw
  obtain rfl : ci0 = 26 := List.mem_singleton.mp hci0
  refine z_callI hZ (vx_runV (As := []) (rest := []) hC.fix (w_J3_size hlt hw) (cwV 0 hts (lw_V q505 q464 q465 q74 q466) rfl rfl rfl ⟨rfl, dd_J3_size⟩ ⟨Nat.le_of_ble_eq_true rfl, Nat.le_of_ble_eq_true rfl⟩) (z_preV hC hZ hM0 zc26) rfl rfl hl.1 rfl (lv_room (Nat.zero_le _)) dX0_plain_10 ⟨hk, hn⟩) (fun r25 M H locs hw1 hZ => ?_) (fun q M H locs ci fs E T9 N9 hw hZ hc1 hM1 hb1 => False.elim hw)
  replace hw := hw1
  clear hw1
  refine W.cs (cells' := cells) (slots' := slots) rfl rfl ?_
  refine lv_istore_n (i := 1) (lv' := [(1, .int r25), (0, .ref o)]) hx hb dX0_plain_13 rfl hl (by decide) rfl (fun ls hl1 => ?_)
  replace hl := hl1
  clear hl1
  refine lv_aload_n hx hb dX0_plain_14 rfl (lv_at hl 1 rfl) ?_
  obtain ⟨fs0, g28, hM0, hx0, hw⟩ := hw
  refine z_get hC hZ hM0 zc0 0 (by decide) q399 (fun _ h9 => h9) hx0 dX0_plain_15 ?_
  refine lv_bipush (v := 6) hx hb dX0_plain_18 (by decide) ?_
  obtain ⟨b29, hr0, hw⟩ := hw
  subst hr0
  obtain ⟨n0, f0, v30, hM0, hi0, hr0, hw⟩ := hw
  refine z_aald hC hZ hM0 (by decide) rfl hi0 hr0 dX0_plain_20 ?_
  obtain ⟨b31, hr0, hw⟩ := hw
  subst hr0
  obtain ⟨q0, fs0, g32, hL0, hM0, hx0, hw⟩ := hw
  refine z_getm hC hZ hM0 (L := [(2, 0), (4, 0), (5, 0), (6, 0)]) (ref := "PluralBranches$Language") (index := 125) (zal (⟨_, _, _, _, zc2, by decide, q289, (fun _ h9 => h9)⟩) (zal (⟨_, _, _, _, zc4, by decide, q289, (fun _ h9 => h9)⟩) (zal (⟨_, _, _, _, zc5, by decide, q289, (fun _ h9 => h9)⟩) (zal (⟨_, _, _, _, zc6, by decide, q289, (fun _ h9 => h9)⟩) (za0))))) hL0 hx0 dX0_plain_21 ?_
  obtain ⟨b33, hr0, hw⟩ := hw
  subst hr0
  obtain ⟨⟨ci0, fs0, hci0, hM0⟩, hw⟩ := hw
  obtain rfl : ci0 = 26 := List.mem_singleton.mp hci0
  refine z_callU hZ (vx_runV (As := []) (rest := []) hC.fix (w_J3_clear hlt hw) (cwV 0 hts (lw_V q510 q511 q512 q74 q513) rfl rfl rfl ⟨rfl, dd_J3_clear⟩ ⟨Nat.le_of_ble_eq_true rfl, Nat.le_of_ble_eq_true rfl⟩) (z_preV hC hZ hM0 zc26) rfl rfl hl.1 rfl (lv_room (Nat.zero_le _)) dX0_plain_24 ⟨hk, hn⟩) (fun r34 M H locs hw1 hZ => ?_) (fun q M H locs ci fs E T9 N9 hw hZ hc1 hM1 hb1 => False.elim hw)
  replace hw := hw1
  clear hw1
  refine W.cs (cells' := cells) (slots' := slots) rfl rfl ?_
  refine lv_iload_n hx hb dX0_plain_27 rfl (lv_at hl 0 rfl) ?_
  exact z_iret hG hZ hk hn hw dX0_plain_28
abbrev rm_X0_ratio (K N : Nat) : Room := { frames := 12, cells := K, slots := N, locals := 10400 }
def wp_X0_ratio_L111 (D : zD) (post : Int32 → zM → Prop) (o : Nat) (k : Nat) (n : Nat) (M : zM) : Prop :=
    post (1 : Int32) M
set_option maxHeartbeats 4000000 in
set_option maxRecDepth 100000 in
theorem wk_X0_ratio_L111 {p : Program} {l : Launch} {e : Env} {s : State} {m : MethodId} {args : Array Value} {below : List Frame} {meth : Method} {c : Code} {D : zD} {post : Int32 → zM → Prop} {K N : Nat} {o : Nat} (hG : zGx p l s m args meth c cX0_ratio 9 "PluralBranches" D (some .int) "ratio" (tableOf [(42, 52, 55, 294)])) : ∀ {H : Heap} {locs : List Loc} {cells slots : Nat} {ls : Array Slot} (k : Nat) (n : Nat) (M : zM), cells + k ≤ K → slots + n ≤ N → zS D M H locs → lv_has ls 9 [] → wp_X0_ratio_L111 D post o k n M → W p l e (rm_X0_ratio K N) s m args below meth c H locs cells slots (vx_MQ below (zQ D zI post) (zX D (fun _ _ => False)) args s K N (zA D)) (F0 m 111 ls []) := by
  have hC := hG.1
  have hx := hC.x
  have hb := hC.b
  have hown := hC.o
  have hts := hC.ts
  have hlt := hG.2.2.2.2.2
  intro H locs cells slots ls k n M hk hn hZ hl hw
  refine lv_iconst (v := 1) hx hb dX0_ratio_111 (by decide) ?_
  exact z_iret hG hZ (by omega) (by omega) hw dX0_ratio_112
def wp_X0_ratio_L55 (D : zD) (post : Int32 → zM → Prop) (o : Nat) (k : Nat) (n : Nat) (y0 : Option Nat) (M : zM) : Prop :=
    post (-15 : Int32) M
set_option maxHeartbeats 4000000 in
set_option maxRecDepth 100000 in
theorem wk_X0_ratio_L55 {p : Program} {l : Launch} {e : Env} {s : State} {m : MethodId} {args : Array Value} {below : List Frame} {meth : Method} {c : Code} {D : zD} {post : Int32 → zM → Prop} {K N : Nat} {o : Nat} (hG : zGx p l s m args meth c cX0_ratio 9 "PluralBranches" D (some .int) "ratio" (tableOf [(42, 52, 55, 294)])) : ∀ {H : Heap} {locs : List Loc} {cells slots : Nat} {ls : Array Slot} (k : Nat) (n : Nat) (y0 : Option Nat) (M : zM), cells + k ≤ K → slots + n ≤ N → zS D M H locs → lv_has ls 9 [] → wp_X0_ratio_L55 D post o k n y0 M → W p l e (rm_X0_ratio K N) s m args below meth c H locs cells slots (vx_MQ below (zQ D zI post) (zX D (fun _ _ => False)) args s K N (zA D)) (F0 m 55 ls [va_rf y0]) := by
  have hC := hG.1
  have hx := hC.x
  have hb := hC.b
  have hown := hC.o
  have hts := hC.ts
  have hlt := hG.2.2.2.2.2
  intro H locs cells slots ls k n y0 M hk hn hZ hl hw
  refine z_astore (i := 8) (lv' := [(8, va_rf y0)]) hC dX0_ratio_55 hl (by decide) rfl (fun ls hl1 => ?_)
  replace hl := hl1
  clear hl1
  refine lv_bipush (v := (-15)) hx hb dX0_ratio_57 (by decide) ?_
  exact z_iret hG hZ (by omega) (by omega) hw dX0_ratio_59
def wp_X0_ratio (D : zD) (post : Int32 → zM → Prop) (k : Nat) (n : Nat) (o : Nat) (a0 : Int32) (a1 : Int32) (a2 : Int32) (a3 : Int32) (M : zM) : Prop :=
    ((zis M o [0] ∧ wp_X0_unlike D (fun r1 M => ((r1 = 0 → (zgR M o 0 7 fun g4 => ((zd g4 fun b5 => zaR M b5 10 a0 fun v6 => ((zd v6 fun b7 => zgR M b7 7 0 fun g8 => ((∃ w x, g8 = some w ∧ zB D ≤ w ∧ M w = some (.inl (2, x)) ∧ (((1 : Int32) = 0 → ((¬ a3 = 0 → ((∃ w x, g8 = some w ∧ zB D ≤ w ∧ M w = some (.inl (3, x)) ∧ (((1 : Int32) = 0 → ((∀ w, g8 = some w → zB D ≤ w ∧ ∃ x : vp_A, M w = some (.inl (4, x))) ∧ (vf_n64 (FP.ddiv (FP.i2d a2) (FP.i2d a3)) ∧ ((zd g8 fun b9 => zsD D M b9 a1 (FP.ddiv (FP.i2d a2) (FP.i2d a3)) fun M => wp_X0_ratio_L111 D post o k n M))))) ∧ (¬ (1 : Int32) = 0 → ((∀ w, g8 = some w → zB D ≤ w ∧ ∃ x : vp_A, M w = some (.inl (3, x))) ∧ (vf_n32 (FP.fdiv (FP.i2f a2) (FP.i2f a3)) ∧ ((zd g8 fun b10 => zsF D M b10 a1 (FP.fdiv (FP.i2f a2) (FP.i2f a3)) fun M => wp_X0_ratio_L111 D post o k n M))))))) ∨ ((∀ w, g8 = some w → zB D ≤ w ∧ ∃ x : vp_A, M w = some (.inl (2, x)) ∨ M w = some (.inl (4, x))) ∧ (((0 : Int32) = 0 → ((∀ w, g8 = some w → zB D ≤ w ∧ ∃ x : vp_A, M w = some (.inl (4, x))) ∧ (vf_n64 (FP.ddiv (FP.i2d a2) (FP.i2d a3)) ∧ ((zd g8 fun b12 => zsD D M b12 a1 (FP.ddiv (FP.i2d a2) (FP.i2d a3)) fun M => wp_X0_ratio_L111 D post o k n M))))) ∧ (¬ (0 : Int32) = 0 → ((∀ w, g8 = some w → zB D ≤ w ∧ ∃ x : vp_A, M w = some (.inl (3, x))) ∧ (vf_n32 (FP.fdiv (FP.i2f a2) (FP.i2f a3)) ∧ ((zd g8 fun b13 => zsF D M b13 a1 (FP.fdiv (FP.i2f a2) (FP.i2f a3)) fun M => wp_X0_ratio_L111 D post o k n M))))))))) ∧ (a3 = 0 → post (-15 : Int32) M))) ∧ (¬ (1 : Int32) = 0 → ((∀ w, g8 = some w → zB D ≤ w ∧ ∃ x : vp_A, M w = some (.inl (2, x))) ∧ ((¬ (a3.toInt64) = 0 → ((zd g8 fun b16 => zsL D M b16 a1 ((a2.toInt64) / (a3.toInt64)) fun M => post (1 : Int32) M))) ∧ ((a3.toInt64) = 0 → (znewX D M 28 k n 3 60 fun q M => (fun q M => (∃ fs, M q = some (.inr (28, fs))) ∧ wp_X0_ratio_L55 D post o (k - 3) (n - 60) (some q) M) q M))))))) ∨ ((∀ w, g8 = some w → zB D ≤ w ∧ ∃ x : vp_A, M w = some (.inl (3, x)) ∨ M w = some (.inl (4, x))) ∧ (((0 : Int32) = 0 → ((¬ a3 = 0 → ((∃ w x, g8 = some w ∧ zB D ≤ w ∧ M w = some (.inl (3, x)) ∧ (((1 : Int32) = 0 → ((∀ w, g8 = some w → zB D ≤ w ∧ ∃ x : vp_A, M w = some (.inl (4, x))) ∧ (vf_n64 (FP.ddiv (FP.i2d a2) (FP.i2d a3)) ∧ ((zd g8 fun b18 => zsD D M b18 a1 (FP.ddiv (FP.i2d a2) (FP.i2d a3)) fun M => wp_X0_ratio_L111 D post o k n M))))) ∧ (¬ (1 : Int32) = 0 → ((∀ w, g8 = some w → zB D ≤ w ∧ ∃ x : vp_A, M w = some (.inl (3, x))) ∧ (vf_n32 (FP.fdiv (FP.i2f a2) (FP.i2f a3)) ∧ ((zd g8 fun b19 => zsF D M b19 a1 (FP.fdiv (FP.i2f a2) (FP.i2f a3)) fun M => wp_X0_ratio_L111 D post o k n M))))))) ∨ ((∀ w, g8 = some w → zB D ≤ w ∧ ∃ x : vp_A, M w = some (.inl (2, x)) ∨ M w = some (.inl (4, x))) ∧ (((0 : Int32) = 0 → ((∀ w, g8 = some w → zB D ≤ w ∧ ∃ x : vp_A, M w = some (.inl (4, x))) ∧ (vf_n64 (FP.ddiv (FP.i2d a2) (FP.i2d a3)) ∧ ((zd g8 fun b21 => zsD D M b21 a1 (FP.ddiv (FP.i2d a2) (FP.i2d a3)) fun M => wp_X0_ratio_L111 D post o k n M))))) ∧ (¬ (0 : Int32) = 0 → ((∀ w, g8 = some w → zB D ≤ w ∧ ∃ x : vp_A, M w = some (.inl (3, x))) ∧ (vf_n32 (FP.fdiv (FP.i2f a2) (FP.i2f a3)) ∧ ((zd g8 fun b22 => zsF D M b22 a1 (FP.fdiv (FP.i2f a2) (FP.i2f a3)) fun M => wp_X0_ratio_L111 D post o k n M))))))))) ∧ (a3 = 0 → post (-15 : Int32) M))) ∧ (¬ (0 : Int32) = 0 → ((∀ w, g8 = some w → zB D ≤ w ∧ ∃ x : vp_A, M w = some (.inl (2, x))) ∧ ((¬ (a3.toInt64) = 0 → ((zd g8 fun b25 => zsL D M b25 a1 ((a2.toInt64) / (a3.toInt64)) fun M => post (1 : Int32) M))) ∧ ((a3.toInt64) = 0 → (znewX D M 28 k n 3 60 fun q M => (fun q M => (∃ fs, M q = some (.inr (28, fs))) ∧ wp_X0_ratio_L55 D post o (k - 3) (n - 60) (some q) M) q M)))))))))))))) ∧ (¬ r1 = 0 → post r1 M))) o a0 a1 M))
set_option maxHeartbeats 4000000 in
set_option maxRecDepth 100000 in
theorem w_X0_ratio {l : Launch} {D : zD} {post : Int32 → zM → Prop} (hlt : l.stackTraces = false) {k : Nat} {n : Nat} {o : Nat} {a0 : Int32} {a1 : Int32} {a2 : Int32} {a3 : Int32} {M : zM} (hw : wp_X0_ratio D post k n o a0 a1 a2 a3 M) : zMet l D yX0_ratio (wsW_ yX0_ratio cX0_ratio 9 (some .int) [(42, 52, 55, 294)]) (rm_X0_ratio k n) k n [.ref o, .int a0, .int a1, .int a2, .int a3] M zI post (fun _ _ => False) := by
  unfold wp_X0_ratio at hw
  have hlv : lv_args 0 [.ref o, .int a0, .int a1, .int a2, .int a3] = [(0, .ref o), (1, .int a0), (2, .int a1), (3, .int a2), (4, .int a3)] := (zargs1 rfl (zargs1 rfl (zargs1 rfl (zargs1 rfl (zargs1 rfl rfl)))))
  refine z_ofWH hlt (by decide) (Nat.le_trans (zsl1 rfl (zsl1 rfl (zsl1 rfl (zsl1 rfl (zsl1 rfl (Nat.le_refl 0 : (lg_sl []).length ≤ 0)))))) (Nat.le_of_ble_eq_true rfl)) hlv ?_
  intro p e s m args below meth c ls hG hZ hl
  have hC := hG.1
  have hx := hC.x
  have hb := hC.b
  have hown := hC.o
  have hts := hC.ts
  have hlt := hG.2.2.2.2.2
  obtain ⟨cells, hce⟩ : ∃ z : Nat, z = 0 := ⟨0, rfl⟩
  obtain ⟨slots, hsl⟩ : ∃ z : Nat, z = 0 := ⟨0, rfl⟩
  refine W.cs (cells' := cells) (slots' := slots) hce.symm hsl.symm ?_
  have hk : cells + k ≤ k := by omega
  have hn : slots + n ≤ n := by omega
  clear hce hsl
  refine lv_aload_n hx hb dX0_ratio_0 rfl (lv_at hl 0 rfl) ?_
  refine lv_iload_n hx hb dX0_ratio_1 rfl (lv_at hl 1 rfl) ?_
  refine lv_iload_n hx hb dX0_ratio_2 rfl (lv_at hl 2 rfl) ?_
  obtain ⟨⟨ci0, fs0, hci0, hM0⟩, hw⟩ := hw
  obtain rfl : ci0 = 0 := List.mem_singleton.mp hci0
  refine z_callI hZ (vx_runV (As := [.int a0, .int a1]) (rest := []) hC.fix (w_X0_unlike hlt hw) (cwV 2 hts (lw_V q1645 q1647 qs27 q67 q1648) rfl rfl rfl ⟨rfl, dd_X0_unlike⟩ ⟨Nat.le_of_ble_eq_true rfl, Nat.le_of_ble_eq_true rfl⟩) (z_preV hC hZ hM0 zc0) rfl rfl hl.1 rfl (lv_room (Nat.zero_le _)) dX0_ratio_3 ⟨(show cells + 0 ≤ k by omega), (show slots + 0 ≤ n by omega)⟩) (fun r28 M H locs hw1 hZ => ?_) (fun q M H locs ci fs E T9 N9 hw hZ hc1 hM1 hb1 => False.elim hw)
  replace hw := hw1
  clear hw1
  refine W.cs (cells' := cells) (slots' := slots) rfl rfl ?_
  refine lv_istore (i := 5) (lv' := [(5, .int r28), (0, .ref o), (1, .int a0), (2, .int a1), (3, .int a2), (4, .int a3)]) hx hb dX0_ratio_6 hl (by decide) rfl (fun ls hl1 => ?_)
  replace hl := hl1
  clear hl1
  refine lv_iload hx hb dX0_ratio_8 (lv_at hl 0 rfl) ?_
  refine lv_if_eq (tgt := 16) hx hb dX0_ratio_10 (by decide) (fun c54 => ?_) (fun c54 => ?_)
  · replace hw := hw.1 c54
    refine lv_aload_n hx hb dX0_ratio_16 rfl (lv_at hl 1 rfl) ?_
    obtain ⟨fs0, g31, hM0, hx0, hw⟩ := hw
    refine z_get hC hZ hM0 zc0 7 (by decide) q408 (fun _ h9 => h9) hx0 dX0_ratio_17 ?_
    refine lv_iload_n hx hb dX0_ratio_20 rfl (lv_at hl 2 rfl) ?_
    obtain ⟨b32, hr0, hw⟩ := hw
    subst hr0
    obtain ⟨n0, f0, v33, hM0, hi0, hr0, hw⟩ := hw
    refine z_aald hC hZ hM0 (by decide) rfl hi0 hr0 dX0_ratio_21 ?_
    obtain ⟨b34, hr0, hw⟩ := hw
    subst hr0
    obtain ⟨fs0, g35, hM0, hx0, hw⟩ := hw
    refine z_getN hC hZ hM0 zc7 0 (by decide) q395 (fun _ h9 => h9) hx0 dX0_ratio_22 ?_
    refine z_astore (i := 6) (lv' := [(6, va_rf g35), (5, .int r28), (0, .ref o), (1, .int a0), (2, .int a1), (3, .int a2), (4, .int a3)]) hC dX0_ratio_25 hl (by decide) rfl (fun ls hl1 => ?_)
    replace hl := hl1
    clear hl1
    refine z_aload hC dX0_ratio_27 (lv_at hl 0 rfl) ?_
    rcases hw with ⟨w0, x0, hr0, hb0, hM0, hw⟩ | ⟨hc0, hw⟩
    · refine z_instAYO (r := g35) (t := .long) hC hZ hr0 hM0 hb0 (Or.inl ⟨rfl, rfl⟩) rfl q1656 dX0_ratio_29 ?_
      refine lv_if_eq (tgt := 62) hx hb dX0_ratio_32 (by decide) (fun c44 => ?_) (fun c44 => ?_)
      · replace hw := hw.1 c44
        refine lv_iload hx hb dX0_ratio_62 (lv_at hl 6 rfl) ?_
        refine lv_if_ne (tgt := 70) hx hb dX0_ratio_64 (by decide) (fun c42 => ?_) (fun c42 => ?_)
        · replace hw := hw.1 c42
          refine z_aload hC dX0_ratio_70 (lv_at hl 0 rfl) ?_
          rcases hw with ⟨w0, x0, hr0, hb0, hM0, hw⟩ | ⟨hc0, hw⟩
          · refine z_instAYO (r := g35) (t := .float) hC hZ hr0 hM0 hb0 (Or.inr (Or.inl ⟨rfl, rfl⟩)) rfl q1657 dX0_ratio_72 ?_
            refine lv_if_eq (tgt := 98) hx hb dX0_ratio_75 (by decide) (fun c38 => ?_) (fun c38 => ?_)
            · replace hw := hw.1 c38
              refine z_aload hC dX0_ratio_98 (lv_at hl 0 rfl) ?_
              obtain ⟨hc0, hw⟩ := hw
              refine z_castAO (r := g35) (t := .double) hC hZ hc0 (Or.inr (Or.inr ⟨rfl, rfl⟩)) rfl q1658 dX0_ratio_100 ?_
              refine lv_iload_n hx hb dX0_ratio_103 rfl (lv_at hl 4 rfl) ?_
              refine lv_iload_n hx hb dX0_ratio_104 rfl (lv_at hl 5 rfl) ?_
              refine lv_i2d hx hb dX0_ratio_105 ?_
              refine lv_iload hx hb dX0_ratio_106 (lv_at hl 6 rfl) ?_
              refine lv_i2d hx hb dX0_ratio_108 ?_
              obtain ⟨hnf, hw⟩ := hw
              refine lv_ddiv hx hb dX0_ratio_109 hnf ?_
              obtain ⟨b36, hr0, hw⟩ := hw
              subst hr0
              obtain ⟨n0, f0, hM0, hb0, hi0, hw⟩ := hw
              refine z_dast hC hZ hM0 hb0 hi0 dX0_ratio_110 (fun H locs hZ => ?_)
              generalize zu M _ _ = M at hw hZ
              exact wk_X0_ratio_L111 hG _ _ _ hk hn hZ (lv_sub hl [] rfl) hw
            · replace hw := hw.2 c38
              refine z_aload hC dX0_ratio_78 (lv_at hl 0 rfl) ?_
              obtain ⟨hc0, hw⟩ := hw
              refine z_castAO (r := g35) (t := .float) hC hZ hc0 (Or.inr (Or.inl ⟨rfl, rfl⟩)) rfl q1657 dX0_ratio_80 ?_
              refine z_astore (i := 7) (lv' := [(7, va_rf g35), (6, va_rf g35), (5, .int r28), (0, .ref o), (1, .int a0), (2, .int a1), (3, .int a2), (4, .int a3)]) hC dX0_ratio_83 hl (by decide) (zfc rfl (zfk (zfa rfl) (zfk rfl (zfk rfl (zfk rfl (zfk rfl (zfk rfl (zfk rfl rfl)))))))) (fun ls hl1 => ?_)
              replace hl := hl1
              clear hl1
              refine z_aload hC dX0_ratio_85 (lv_at hl 0 rfl) ?_
              refine lv_iload_n hx hb dX0_ratio_87 rfl (lv_at hl 5 rfl) ?_
              refine lv_iload_n hx hb dX0_ratio_88 rfl (lv_at hl 6 rfl) ?_
              refine lv_i2f hx hb dX0_ratio_89 ?_
              refine lv_iload hx hb dX0_ratio_90 (lv_at hl 7 rfl) ?_
              refine lv_i2f hx hb dX0_ratio_92 ?_
              obtain ⟨hnf, hw⟩ := hw
              refine lv_fdiv hx hb dX0_ratio_93 hnf ?_
              obtain ⟨b37, hr0, hw⟩ := hw
              subst hr0
              obtain ⟨n0, f0, hM0, hb0, hi0, hw⟩ := hw
              refine z_fast hC hZ hM0 hb0 hi0 dX0_ratio_94 (fun H locs hZ => ?_)
              generalize zu M _ _ = M at hw hZ
              refine lv_goto (tgt := 111) hx hb dX0_ratio_95 (by decide) ?_
              exact wk_X0_ratio_L111 hG _ _ _ hk hn hZ (lv_sub hl [] rfl) hw
          · refine z_instANO (r := g35) (t1 := .long) (t2 := .double) hC hZ hc0 (Or.inl ⟨rfl, rfl⟩) (Or.inr (Or.inr ⟨rfl, rfl⟩)) (by decide) (by decide) q1657 dX0_ratio_72 ?_
            refine lv_if_eq (tgt := 98) hx hb dX0_ratio_75 (by decide) (fun c41 => ?_) (fun c41 => ?_)
            · replace hw := hw.1 c41
              refine z_aload hC dX0_ratio_98 (lv_at hl 0 rfl) ?_
              obtain ⟨hc0, hw⟩ := hw
              refine z_castAO (r := g35) (t := .double) hC hZ hc0 (Or.inr (Or.inr ⟨rfl, rfl⟩)) rfl q1658 dX0_ratio_100 ?_
              refine lv_iload_n hx hb dX0_ratio_103 rfl (lv_at hl 4 rfl) ?_
              refine lv_iload_n hx hb dX0_ratio_104 rfl (lv_at hl 5 rfl) ?_
              refine lv_i2d hx hb dX0_ratio_105 ?_
              refine lv_iload hx hb dX0_ratio_106 (lv_at hl 6 rfl) ?_
              refine lv_i2d hx hb dX0_ratio_108 ?_
              obtain ⟨hnf, hw⟩ := hw
              refine lv_ddiv hx hb dX0_ratio_109 hnf ?_
              obtain ⟨b39, hr0, hw⟩ := hw
              subst hr0
              obtain ⟨n0, f0, hM0, hb0, hi0, hw⟩ := hw
              refine z_dast hC hZ hM0 hb0 hi0 dX0_ratio_110 (fun H locs hZ => ?_)
              generalize zu M _ _ = M at hw hZ
              exact wk_X0_ratio_L111 hG _ _ _ hk hn hZ (lv_sub hl [] rfl) hw
            · replace hw := hw.2 c41
              refine z_aload hC dX0_ratio_78 (lv_at hl 0 rfl) ?_
              obtain ⟨hc0, hw⟩ := hw
              refine z_castAO (r := g35) (t := .float) hC hZ hc0 (Or.inr (Or.inl ⟨rfl, rfl⟩)) rfl q1657 dX0_ratio_80 ?_
              refine z_astore (i := 7) (lv' := [(7, va_rf g35), (6, va_rf g35), (5, .int r28), (0, .ref o), (1, .int a0), (2, .int a1), (3, .int a2), (4, .int a3)]) hC dX0_ratio_83 hl (by decide) (zfc rfl (zfk (zfa rfl) (zfk rfl (zfk rfl (zfk rfl (zfk rfl (zfk rfl (zfk rfl rfl)))))))) (fun ls hl1 => ?_)
              replace hl := hl1
              clear hl1
              refine z_aload hC dX0_ratio_85 (lv_at hl 0 rfl) ?_
              refine lv_iload_n hx hb dX0_ratio_87 rfl (lv_at hl 5 rfl) ?_
              refine lv_iload_n hx hb dX0_ratio_88 rfl (lv_at hl 6 rfl) ?_
              refine lv_i2f hx hb dX0_ratio_89 ?_
              refine lv_iload hx hb dX0_ratio_90 (lv_at hl 7 rfl) ?_
              refine lv_i2f hx hb dX0_ratio_92 ?_
              obtain ⟨hnf, hw⟩ := hw
              refine lv_fdiv hx hb dX0_ratio_93 hnf ?_
              obtain ⟨b40, hr0, hw⟩ := hw
              subst hr0
              obtain ⟨n0, f0, hM0, hb0, hi0, hw⟩ := hw
              refine z_fast hC hZ hM0 hb0 hi0 dX0_ratio_94 (fun H locs hZ => ?_)
              generalize zu M _ _ = M at hw hZ
              refine lv_goto (tgt := 111) hx hb dX0_ratio_95 (by decide) ?_
              exact wk_X0_ratio_L111 hG _ _ _ hk hn hZ (lv_sub hl [] rfl) hw
        · replace hw := hw.2 c42
          refine lv_bipush (v := (-15)) hx hb dX0_ratio_67 (by decide) ?_
          exact z_iret hG hZ (by omega) (by omega) hw dX0_ratio_69
      · replace hw := hw.2 c44
        refine z_aload hC dX0_ratio_35 (lv_at hl 0 rfl) ?_
        obtain ⟨hc0, hw⟩ := hw
        refine z_castAO (r := g35) (t := .long) hC hZ hc0 (Or.inl ⟨rfl, rfl⟩) rfl q1656 dX0_ratio_37 ?_
        refine z_astore (i := 7) (lv' := [(7, va_rf g35), (6, va_rf g35), (5, .int r28), (0, .ref o), (1, .int a0), (2, .int a1), (3, .int a2), (4, .int a3)]) hC dX0_ratio_40 hl (by decide) (zfc rfl (zfk (zfa rfl) (zfk rfl (zfk rfl (zfk rfl (zfk rfl (zfk rfl (zfk rfl rfl)))))))) (fun ls hl1 => ?_)
        replace hl := hl1
        clear hl1
        refine z_aload hC dX0_ratio_42 (lv_at hl 0 rfl) ?_
        refine lv_iload_n hx hb dX0_ratio_44 rfl (lv_at hl 5 rfl) ?_
        refine lv_iload_n hx hb dX0_ratio_45 rfl (lv_at hl 6 rfl) ?_
        refine lv_i2l hx hb dX0_ratio_46 rfl ?_
        refine lv_iload hx hb dX0_ratio_47 (lv_at hl 7 rfl) ?_
        refine lv_i2l hx hb dX0_ratio_49 rfl ?_
        by_cases hz0 : (a3.toInt64) = 0
        · replace hw := hw.2 hz0
          refine vx_ldivZ hx hb hz0 dX0_ratio_50 ?_
          obtain ⟨hk1, hn1, hw⟩ := hw
          refine z_vm28 hG hZ hl.1 (Nat.le_trans (zrm1 rfl (zrm1 (zcat _) zrm0)) (Nat.le_of_ble_eq_true rfl)) (Nat.le_of_ble_eq_true rfl) (Nat.le_of_ble_eq_true rfl) (show cells + 3 ≤ k by omega) (show slots + 60 ≤ n by omega) (fun q H hq0 hb1 hZ => ?_)
          replace hw := hw q hq0 hb1
          have hM1 : zu M q (some (.inr (28, []))) q = some (.inr (28, [])) := zu_s
          generalize zu M _ _ = M at hw hZ hM1
          have hc1 := zc28.1
          have hk : cells + 3 + (k - 3) ≤ k := by omega
          have hn : slots + 60 + (n - 60) ≤ n := by omega
          generalize cells + 3 = cells at hk ⊢
          generalize slots + 60 = slots at hn ⊢
          clear hk1 hn1
          obtain ⟨ci, hci⟩ : ∃ z, z = 28 := ⟨_, rfl⟩
          rw [← hci] at hM1 hc1
          obtain ⟨fs, hfs⟩ : ∃ z : List Value, z = [] := ⟨_, rfl⟩
          rw [← hfs] at hM1
          obtain ⟨⟨fs9, hM9⟩, hw⟩ := hw
          obtain ⟨rfl, rfl⟩ : ci = 28 ∧ fs = fs9 := by rw [hM9] at hM1; cases hM1; exact ⟨rfl, rfl⟩
          refine z_catch hG hZ hM1 hb1 zc28.1 (tableOf []) ⟨42, 52, 55, 294⟩ (tableOf []) rfl (by decide) (by decide) (by decide) q1289 q1309 ?_
          exact wk_X0_ratio_L55 hG _ _ _ _ hk hn hZ (lv_sub hl [] rfl) hw
        · replace hw := hw.1 hz0
          refine lv_ldiv hx hb dX0_ratio_50 hz0 ?_
          obtain ⟨b43, hr0, hw⟩ := hw
          subst hr0
          obtain ⟨n0, f0, hM0, hb0, hi0, hw⟩ := hw
          refine z_last hC hZ hM0 hb0 hi0 dX0_ratio_51 (fun H locs hZ => ?_)
          generalize zu M _ _ = M at hw hZ
          refine lv_goto (tgt := 60) hx hb dX0_ratio_52 (by decide) ?_
          refine lv_iconst (v := 1) hx hb dX0_ratio_60 (by decide) ?_
          exact z_iret hG hZ (by omega) (by omega) hw dX0_ratio_61
    · refine z_instANO (r := g35) (t1 := .float) (t2 := .double) hC hZ hc0 (Or.inr (Or.inl ⟨rfl, rfl⟩)) (Or.inr (Or.inr ⟨rfl, rfl⟩)) (by decide) (by decide) q1656 dX0_ratio_29 ?_
      refine lv_if_eq (tgt := 62) hx hb dX0_ratio_32 (by decide) (fun c53 => ?_) (fun c53 => ?_)
      · replace hw := hw.1 c53
        refine lv_iload hx hb dX0_ratio_62 (lv_at hl 6 rfl) ?_
        refine lv_if_ne (tgt := 70) hx hb dX0_ratio_64 (by decide) (fun c51 => ?_) (fun c51 => ?_)
        · replace hw := hw.1 c51
          refine z_aload hC dX0_ratio_70 (lv_at hl 0 rfl) ?_
          rcases hw with ⟨w0, x0, hr0, hb0, hM0, hw⟩ | ⟨hc0, hw⟩
          · refine z_instAYO (r := g35) (t := .float) hC hZ hr0 hM0 hb0 (Or.inr (Or.inl ⟨rfl, rfl⟩)) rfl q1657 dX0_ratio_72 ?_
            refine lv_if_eq (tgt := 98) hx hb dX0_ratio_75 (by decide) (fun c47 => ?_) (fun c47 => ?_)
            · replace hw := hw.1 c47
              refine z_aload hC dX0_ratio_98 (lv_at hl 0 rfl) ?_
              obtain ⟨hc0, hw⟩ := hw
              refine z_castAO (r := g35) (t := .double) hC hZ hc0 (Or.inr (Or.inr ⟨rfl, rfl⟩)) rfl q1658 dX0_ratio_100 ?_
              refine lv_iload_n hx hb dX0_ratio_103 rfl (lv_at hl 4 rfl) ?_
              refine lv_iload_n hx hb dX0_ratio_104 rfl (lv_at hl 5 rfl) ?_
              refine lv_i2d hx hb dX0_ratio_105 ?_
              refine lv_iload hx hb dX0_ratio_106 (lv_at hl 6 rfl) ?_
              refine lv_i2d hx hb dX0_ratio_108 ?_
              obtain ⟨hnf, hw⟩ := hw
              refine lv_ddiv hx hb dX0_ratio_109 hnf ?_
              obtain ⟨b45, hr0, hw⟩ := hw
              subst hr0
              obtain ⟨n0, f0, hM0, hb0, hi0, hw⟩ := hw
              refine z_dast hC hZ hM0 hb0 hi0 dX0_ratio_110 (fun H locs hZ => ?_)
              generalize zu M _ _ = M at hw hZ
              exact wk_X0_ratio_L111 hG _ _ _ hk hn hZ (lv_sub hl [] rfl) hw
            · replace hw := hw.2 c47
              refine z_aload hC dX0_ratio_78 (lv_at hl 0 rfl) ?_
              obtain ⟨hc0, hw⟩ := hw
              refine z_castAO (r := g35) (t := .float) hC hZ hc0 (Or.inr (Or.inl ⟨rfl, rfl⟩)) rfl q1657 dX0_ratio_80 ?_
              refine z_astore (i := 7) (lv' := [(7, va_rf g35), (6, va_rf g35), (5, .int r28), (0, .ref o), (1, .int a0), (2, .int a1), (3, .int a2), (4, .int a3)]) hC dX0_ratio_83 hl (by decide) (zfc rfl (zfk (zfa rfl) (zfk rfl (zfk rfl (zfk rfl (zfk rfl (zfk rfl (zfk rfl rfl)))))))) (fun ls hl1 => ?_)
              replace hl := hl1
              clear hl1
              refine z_aload hC dX0_ratio_85 (lv_at hl 0 rfl) ?_
              refine lv_iload_n hx hb dX0_ratio_87 rfl (lv_at hl 5 rfl) ?_
              refine lv_iload_n hx hb dX0_ratio_88 rfl (lv_at hl 6 rfl) ?_
              refine lv_i2f hx hb dX0_ratio_89 ?_
              refine lv_iload hx hb dX0_ratio_90 (lv_at hl 7 rfl) ?_
              refine lv_i2f hx hb dX0_ratio_92 ?_
              obtain ⟨hnf, hw⟩ := hw
              refine lv_fdiv hx hb dX0_ratio_93 hnf ?_
              obtain ⟨b46, hr0, hw⟩ := hw
              subst hr0
              obtain ⟨n0, f0, hM0, hb0, hi0, hw⟩ := hw
              refine z_fast hC hZ hM0 hb0 hi0 dX0_ratio_94 (fun H locs hZ => ?_)
              generalize zu M _ _ = M at hw hZ
              refine lv_goto (tgt := 111) hx hb dX0_ratio_95 (by decide) ?_
              exact wk_X0_ratio_L111 hG _ _ _ hk hn hZ (lv_sub hl [] rfl) hw
          · refine z_instANO (r := g35) (t1 := .long) (t2 := .double) hC hZ hc0 (Or.inl ⟨rfl, rfl⟩) (Or.inr (Or.inr ⟨rfl, rfl⟩)) (by decide) (by decide) q1657 dX0_ratio_72 ?_
            refine lv_if_eq (tgt := 98) hx hb dX0_ratio_75 (by decide) (fun c50 => ?_) (fun c50 => ?_)
            · replace hw := hw.1 c50
              refine z_aload hC dX0_ratio_98 (lv_at hl 0 rfl) ?_
              obtain ⟨hc0, hw⟩ := hw
              refine z_castAO (r := g35) (t := .double) hC hZ hc0 (Or.inr (Or.inr ⟨rfl, rfl⟩)) rfl q1658 dX0_ratio_100 ?_
              refine lv_iload_n hx hb dX0_ratio_103 rfl (lv_at hl 4 rfl) ?_
              refine lv_iload_n hx hb dX0_ratio_104 rfl (lv_at hl 5 rfl) ?_
              refine lv_i2d hx hb dX0_ratio_105 ?_
              refine lv_iload hx hb dX0_ratio_106 (lv_at hl 6 rfl) ?_
              refine lv_i2d hx hb dX0_ratio_108 ?_
              obtain ⟨hnf, hw⟩ := hw
              refine lv_ddiv hx hb dX0_ratio_109 hnf ?_
              obtain ⟨b48, hr0, hw⟩ := hw
              subst hr0
              obtain ⟨n0, f0, hM0, hb0, hi0, hw⟩ := hw
              refine z_dast hC hZ hM0 hb0 hi0 dX0_ratio_110 (fun H locs hZ => ?_)
              generalize zu M _ _ = M at hw hZ
              exact wk_X0_ratio_L111 hG _ _ _ hk hn hZ (lv_sub hl [] rfl) hw
            · replace hw := hw.2 c50
              refine z_aload hC dX0_ratio_78 (lv_at hl 0 rfl) ?_
              obtain ⟨hc0, hw⟩ := hw
              refine z_castAO (r := g35) (t := .float) hC hZ hc0 (Or.inr (Or.inl ⟨rfl, rfl⟩)) rfl q1657 dX0_ratio_80 ?_
              refine z_astore (i := 7) (lv' := [(7, va_rf g35), (6, va_rf g35), (5, .int r28), (0, .ref o), (1, .int a0), (2, .int a1), (3, .int a2), (4, .int a3)]) hC dX0_ratio_83 hl (by decide) (zfc rfl (zfk (zfa rfl) (zfk rfl (zfk rfl (zfk rfl (zfk rfl (zfk rfl (zfk rfl rfl)))))))) (fun ls hl1 => ?_)
              replace hl := hl1
              clear hl1
              refine z_aload hC dX0_ratio_85 (lv_at hl 0 rfl) ?_
              refine lv_iload_n hx hb dX0_ratio_87 rfl (lv_at hl 5 rfl) ?_
              refine lv_iload_n hx hb dX0_ratio_88 rfl (lv_at hl 6 rfl) ?_
              refine lv_i2f hx hb dX0_ratio_89 ?_
              refine lv_iload hx hb dX0_ratio_90 (lv_at hl 7 rfl) ?_
              refine lv_i2f hx hb dX0_ratio_92 ?_
              obtain ⟨hnf, hw⟩ := hw
              refine lv_fdiv hx hb dX0_ratio_93 hnf ?_
              obtain ⟨b49, hr0, hw⟩ := hw
              subst hr0
              obtain ⟨n0, f0, hM0, hb0, hi0, hw⟩ := hw
              refine z_fast hC hZ hM0 hb0 hi0 dX0_ratio_94 (fun H locs hZ => ?_)
              generalize zu M _ _ = M at hw hZ
              refine lv_goto (tgt := 111) hx hb dX0_ratio_95 (by decide) ?_
              exact wk_X0_ratio_L111 hG _ _ _ hk hn hZ (lv_sub hl [] rfl) hw
        · replace hw := hw.2 c51
          refine lv_bipush (v := (-15)) hx hb dX0_ratio_67 (by decide) ?_
          exact z_iret hG hZ (by omega) (by omega) hw dX0_ratio_69
      · replace hw := hw.2 c53
        refine z_aload hC dX0_ratio_35 (lv_at hl 0 rfl) ?_
        obtain ⟨hc0, hw⟩ := hw
        refine z_castAO (r := g35) (t := .long) hC hZ hc0 (Or.inl ⟨rfl, rfl⟩) rfl q1656 dX0_ratio_37 ?_
        refine z_astore (i := 7) (lv' := [(7, va_rf g35), (6, va_rf g35), (5, .int r28), (0, .ref o), (1, .int a0), (2, .int a1), (3, .int a2), (4, .int a3)]) hC dX0_ratio_40 hl (by decide) (zfc rfl (zfk (zfa rfl) (zfk rfl (zfk rfl (zfk rfl (zfk rfl (zfk rfl (zfk rfl rfl)))))))) (fun ls hl1 => ?_)
        replace hl := hl1
        clear hl1
        refine z_aload hC dX0_ratio_42 (lv_at hl 0 rfl) ?_
        refine lv_iload_n hx hb dX0_ratio_44 rfl (lv_at hl 5 rfl) ?_
        refine lv_iload_n hx hb dX0_ratio_45 rfl (lv_at hl 6 rfl) ?_
        refine lv_i2l hx hb dX0_ratio_46 rfl ?_
        refine lv_iload hx hb dX0_ratio_47 (lv_at hl 7 rfl) ?_
        refine lv_i2l hx hb dX0_ratio_49 rfl ?_
        by_cases hz0 : (a3.toInt64) = 0
        · replace hw := hw.2 hz0
          refine vx_ldivZ hx hb hz0 dX0_ratio_50 ?_
          obtain ⟨hk1, hn1, hw⟩ := hw
          refine z_vm28 hG hZ hl.1 (Nat.le_trans (zrm1 rfl (zrm1 (zcat _) zrm0)) (Nat.le_of_ble_eq_true rfl)) (Nat.le_of_ble_eq_true rfl) (Nat.le_of_ble_eq_true rfl) (show cells + 3 ≤ k by omega) (show slots + 60 ≤ n by omega) (fun q H hq0 hb1 hZ => ?_)
          replace hw := hw q hq0 hb1
          have hM1 : zu M q (some (.inr (28, []))) q = some (.inr (28, [])) := zu_s
          generalize zu M _ _ = M at hw hZ hM1
          have hc1 := zc28.1
          have hk : cells + 3 + (k - 3) ≤ k := by omega
          have hn : slots + 60 + (n - 60) ≤ n := by omega
          generalize cells + 3 = cells at hk ⊢
          generalize slots + 60 = slots at hn ⊢
          clear hk1 hn1
          obtain ⟨ci, hci⟩ : ∃ z, z = 28 := ⟨_, rfl⟩
          rw [← hci] at hM1 hc1
          obtain ⟨fs, hfs⟩ : ∃ z : List Value, z = [] := ⟨_, rfl⟩
          rw [← hfs] at hM1
          obtain ⟨⟨fs9, hM9⟩, hw⟩ := hw
          obtain ⟨rfl, rfl⟩ : ci = 28 ∧ fs = fs9 := by rw [hM9] at hM1; cases hM1; exact ⟨rfl, rfl⟩
          refine z_catch hG hZ hM1 hb1 zc28.1 (tableOf []) ⟨42, 52, 55, 294⟩ (tableOf []) rfl (by decide) (by decide) (by decide) q1289 q1309 ?_
          exact wk_X0_ratio_L55 hG _ _ _ _ hk hn hZ (lv_sub hl [] rfl) hw
        · replace hw := hw.1 hz0
          refine lv_ldiv hx hb dX0_ratio_50 hz0 ?_
          obtain ⟨b52, hr0, hw⟩ := hw
          subst hr0
          obtain ⟨n0, f0, hM0, hb0, hi0, hw⟩ := hw
          refine z_last hC hZ hM0 hb0 hi0 dX0_ratio_51 (fun H locs hZ => ?_)
          generalize zu M _ _ = M at hw hZ
          refine lv_goto (tgt := 60) hx hb dX0_ratio_52 (by decide) ?_
          refine lv_iconst (v := 1) hx hb dX0_ratio_60 (by decide) ?_
          exact z_iret hG hZ (by omega) (by omega) hw dX0_ratio_61
  · replace hw := hw.2 c54
    refine lv_iload hx hb dX0_ratio_13 (lv_at hl 0 rfl) ?_
    exact z_iret hG hZ (by omega) (by omega) hw dX0_ratio_15
