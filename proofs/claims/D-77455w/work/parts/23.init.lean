set_option maxRecDepth 100000
abbrev rm_X9_init (K N : Nat) : Room := { frames := 1, cells := K, slots := N, locals := 64 }
def wp_X9_init_L340 (D : zD) (post : Unit → zM → Prop) (o : Nat) : Nat → Nat → Nat → Int32 → zM → Prop
  | 0 => fun _ _ _ _ => False
  | f + 1 => fun k n x1 M =>
    (((4 : Int32) ≤ x1 → post () M) ∧ (¬ (4 : Int32) ≤ x1 → (zgR M o 8 9 fun g1 => ((zd g1 fun b2 => zsI D M b2 x1 (-1 : Int32) fun M => wp_X9_init_L340 D post o f k n (x1 + 1) M)))))
set_option maxHeartbeats 4000000 in
set_option maxRecDepth 100000 in
theorem wk_X9_init_L340 {p : Program} {l : Launch} {e : Env} {s : State} {m : MethodId} {args : Array Value} {below : List Frame} {meth : Method} {c : Code} {D : zD} {post : Unit → zM → Prop} {K N : Nat} {o : Nat} (hG : zGx p l s m args meth c cX9_init 2 "PluralBranchesModel" D (none) "<init>" []) : ∀ (f : Nat), ∀ {H : Heap} {locs : List Loc} {cells slots : Nat} {ls : Array Slot} (k : Nat) (n : Nat) (x1 : Int32) (M : zM), cells + k ≤ K → slots + n ≤ N → zS D M H locs → lv_has ls 2 [(0, .ref o), (1, .int x1)] → wp_X9_init_L340 D post o f k n x1 M → W p l e (rm_X9_init K N) s m args below meth c H locs cells slots (vx_MQ below (zQ D zU post) (zX D (fun _ _ => False)) args s K N (zA D)) (F0 m 340 ls []) := by
  have hC := hG.1
  have hx := hC.x
  have hb := hC.b
  have hown := hC.o
  have hts := hC.ts
  have hlt := hG.2.2.2.2.2
  intro f
  induction f with
  | zero =>
    intro H locs cells slots ls k n x1 M hk hn hZ hl hw
    exact absurd hw (fun h => h)
  | succ f ih =>
    intro H locs cells slots ls k n x1 M hk hn hZ hl hw
    refine lv_iload_n hx hb dX9_init_340 rfl (lv_at hl 1 rfl) ?_
    refine lv_iconst (v := 4) hx hb dX9_init_341 (by decide) ?_
    refine lv_icmp_ge (tgt := 358) hx hb dX9_init_342 (by decide) (fun c6 => ?_) (fun c6 => ?_)
    · replace hw := hw.1 c6
      exact z_vret hG hZ (by omega) (by omega) hw dX9_init_358
    · replace hw := hw.2 c6
      refine lv_aload_n hx hb dX9_init_345 rfl (lv_at hl 0 rfl) ?_
      obtain ⟨fs0, g4, hM0, hx0, hw⟩ := hw
      refine z_get hC hZ hM0 zc8 9 (by decide) q1729 (fun _ h9 => h9) hx0 dX9_init_346 ?_
      refine lv_iload_n hx hb dX9_init_349 rfl (lv_at hl 1 rfl) ?_
      refine lv_iconst (v := (-1)) hx hb dX9_init_350 (by decide) ?_
      obtain ⟨b5, hr0, hw⟩ := hw
      subst hr0
      obtain ⟨n0, f0, hM0, hb0, hi0, hw⟩ := hw
      refine z_iast hC hZ hM0 hb0 hi0 dX9_init_351 (fun H locs hZ => ?_)
      generalize zu M _ _ = M at hw hZ
      refine lv_iinc (v := (x1 + 1)) (lv' := [(1, .int (x1 + 1)), (0, .ref o)]) hx hb dX9_init_352 hl (k := 1) rfl rfl (by decide) rfl (fun ls hl1 => ?_)
      replace hl := hl1
      clear hl1
      refine lv_goto (tgt := 340) hx hb dX9_init_355 (by decide) ?_
      exact ih _ _ _ _ hk hn hZ (lv_sub hl [1, 0] rfl) hw
def wp_X9_init_L320 (D : zD) (post : Unit → zM → Prop) (o : Nat) : Nat → Nat → Nat → Int32 → zM → Prop
  | 0 => fun _ _ _ _ => False
  | f + 1 => fun k n x1 M =>
    (((3 : Int32) ≤ x1 → (∃ f, wp_X9_init_L340 D post o f k n (0 : Int32) M)) ∧ (¬ (3 : Int32) ≤ x1 → (zgR M o 8 51 fun g7 => ((zd g7 fun b8 => zsI D M b8 x1 (-1 : Int32) fun M => wp_X9_init_L320 D post o f k n (x1 + 1) M)))))
set_option maxHeartbeats 4000000 in
set_option maxRecDepth 100000 in
theorem wk_X9_init_L320 {p : Program} {l : Launch} {e : Env} {s : State} {m : MethodId} {args : Array Value} {below : List Frame} {meth : Method} {c : Code} {D : zD} {post : Unit → zM → Prop} {K N : Nat} {o : Nat} (hG : zGx p l s m args meth c cX9_init 2 "PluralBranchesModel" D (none) "<init>" []) : ∀ (f : Nat), ∀ {H : Heap} {locs : List Loc} {cells slots : Nat} {ls : Array Slot} (k : Nat) (n : Nat) (x1 : Int32) (M : zM), cells + k ≤ K → slots + n ≤ N → zS D M H locs → lv_has ls 2 [(0, .ref o), (1, .int x1)] → wp_X9_init_L320 D post o f k n x1 M → W p l e (rm_X9_init K N) s m args below meth c H locs cells slots (vx_MQ below (zQ D zU post) (zX D (fun _ _ => False)) args s K N (zA D)) (F0 m 320 ls []) := by
  have hC := hG.1
  have hx := hC.x
  have hb := hC.b
  have hown := hC.o
  have hts := hC.ts
  have hlt := hG.2.2.2.2.2
  intro f
  induction f with
  | zero =>
    intro H locs cells slots ls k n x1 M hk hn hZ hl hw
    exact absurd hw (fun h => h)
  | succ f ih =>
    intro H locs cells slots ls k n x1 M hk hn hZ hl hw
    refine lv_iload_n hx hb dX9_init_320 rfl (lv_at hl 1 rfl) ?_
    refine lv_iconst (v := 3) hx hb dX9_init_321 (by decide) ?_
    refine lv_icmp_ge (tgt := 338) hx hb dX9_init_322 (by decide) (fun c12 => ?_) (fun c12 => ?_)
    · replace hw := hw.1 c12
      refine lv_iconst (v := 0) hx hb dX9_init_338 (by decide) ?_
      refine lv_istore_n (i := 1) (lv' := [(1, .int (0 : Int32)), (0, .ref o)]) hx hb dX9_init_339 rfl hl (by decide) rfl (fun ls hl1 => ?_)
      replace hl := hl1
      clear hl1
      obtain ⟨f1, hw⟩ := hw
      exact wk_X9_init_L340 hG f1 _ _ _ _ hk hn hZ (lv_sub hl [1, 0] rfl) hw
    · replace hw := hw.2 c12
      refine lv_aload_n hx hb dX9_init_325 rfl (lv_at hl 0 rfl) ?_
      obtain ⟨fs0, g10, hM0, hx0, hw⟩ := hw
      refine z_get hC hZ hM0 zc8 51 (by decide) q1771 (fun _ h9 => h9) hx0 dX9_init_326 ?_
      refine lv_iload_n hx hb dX9_init_329 rfl (lv_at hl 1 rfl) ?_
      refine lv_iconst (v := (-1)) hx hb dX9_init_330 (by decide) ?_
      obtain ⟨b11, hr0, hw⟩ := hw
      subst hr0
      obtain ⟨n0, f0, hM0, hb0, hi0, hw⟩ := hw
      refine z_iast hC hZ hM0 hb0 hi0 dX9_init_331 (fun H locs hZ => ?_)
      generalize zu M _ _ = M at hw hZ
      refine lv_iinc (v := (x1 + 1)) (lv' := [(1, .int (x1 + 1)), (0, .ref o)]) hx hb dX9_init_332 hl (k := 1) rfl rfl (by decide) rfl (fun ls hl1 => ?_)
      replace hl := hl1
      clear hl1
      refine lv_goto (tgt := 320) hx hb dX9_init_335 (by decide) ?_
      exact ih _ _ _ _ hk hn hZ (lv_sub hl [1, 0] rfl) hw
def wp_X9_init (D : zD) (post : Unit → zM → Prop) (k : Nat) (n : Nat) (o : Nat) (M : zM) : Prop :=
    (znewA D M 0 (12 : Int32) k n fun b13 M => (zp D M o 8 1 (.ref b13) fun M => (znewA D M 0 (12 : Int32) (k - 1) (n - (12 : Int32).toNatClampNeg) fun b14 M => (zp D M o 8 2 (.ref b14) fun M => (znewA D M 0 (12 : Int32) ((k - 1) - 1) ((n - (12 : Int32).toNatClampNeg) - (12 : Int32).toNatClampNeg) fun b15 M => (zp D M o 8 3 (.ref b15) fun M => (znewA D M 0 (12 : Int32) (((k - 1) - 1) - 1) (((n - (12 : Int32).toNatClampNeg) - (12 : Int32).toNatClampNeg) - (12 : Int32).toNatClampNeg) fun b16 M => (zp D M o 8 4 (.ref b16) fun M => (znewA D M 0 (12 : Int32) ((((k - 1) - 1) - 1) - 1) ((((n - (12 : Int32).toNatClampNeg) - (12 : Int32).toNatClampNeg) - (12 : Int32).toNatClampNeg) - (12 : Int32).toNatClampNeg) fun b17 M => (zp D M o 8 5 (.ref b17) fun M => (znewA D M 0 (12 : Int32) (((((k - 1) - 1) - 1) - 1) - 1) (((((n - (12 : Int32).toNatClampNeg) - (12 : Int32).toNatClampNeg) - (12 : Int32).toNatClampNeg) - (12 : Int32).toNatClampNeg) - (12 : Int32).toNatClampNeg) fun b18 M => (zp D M o 8 6 (.ref b18) fun M => (znewA D M 0 (120 : Int32) ((((((k - 1) - 1) - 1) - 1) - 1) - 1) ((((((n - (12 : Int32).toNatClampNeg) - (12 : Int32).toNatClampNeg) - (12 : Int32).toNatClampNeg) - (12 : Int32).toNatClampNeg) - (12 : Int32).toNatClampNeg) - (12 : Int32).toNatClampNeg) fun b19 M => (zp D M o 8 7 (.ref b19) fun M => (znewA D M 0 (4 : Int32) (((((((k - 1) - 1) - 1) - 1) - 1) - 1) - 1) (((((((n - (12 : Int32).toNatClampNeg) - (12 : Int32).toNatClampNeg) - (12 : Int32).toNatClampNeg) - (12 : Int32).toNatClampNeg) - (12 : Int32).toNatClampNeg) - (12 : Int32).toNatClampNeg) - (120 : Int32).toNatClampNeg) fun b20 M => (zp D M o 8 9 (.ref b20) fun M => (znewA D M 0 (480 : Int32) ((((((((k - 1) - 1) - 1) - 1) - 1) - 1) - 1) - 1) ((((((((n - (12 : Int32).toNatClampNeg) - (12 : Int32).toNatClampNeg) - (12 : Int32).toNatClampNeg) - (12 : Int32).toNatClampNeg) - (12 : Int32).toNatClampNeg) - (12 : Int32).toNatClampNeg) - (120 : Int32).toNatClampNeg) - (4 : Int32).toNatClampNeg) fun b21 M => (zp D M o 8 10 (.ref b21) fun M => (znewA D M 0 (4 : Int32) (((((((((k - 1) - 1) - 1) - 1) - 1) - 1) - 1) - 1) - 1) (((((((((n - (12 : Int32).toNatClampNeg) - (12 : Int32).toNatClampNeg) - (12 : Int32).toNatClampNeg) - (12 : Int32).toNatClampNeg) - (12 : Int32).toNatClampNeg) - (12 : Int32).toNatClampNeg) - (120 : Int32).toNatClampNeg) - (4 : Int32).toNatClampNeg) - (480 : Int32).toNatClampNeg) fun b22 M => (zp D M o 8 11 (.ref b22) fun M => (znewA D M 0 (4 : Int32) ((((((((((k - 1) - 1) - 1) - 1) - 1) - 1) - 1) - 1) - 1) - 1) ((((((((((n - (12 : Int32).toNatClampNeg) - (12 : Int32).toNatClampNeg) - (12 : Int32).toNatClampNeg) - (12 : Int32).toNatClampNeg) - (12 : Int32).toNatClampNeg) - (12 : Int32).toNatClampNeg) - (120 : Int32).toNatClampNeg) - (4 : Int32).toNatClampNeg) - (480 : Int32).toNatClampNeg) - (4 : Int32).toNatClampNeg) fun b23 M => (zp D M o 8 12 (.ref b23) fun M => (znewA D M 0 (4 : Int32) (((((((((((k - 1) - 1) - 1) - 1) - 1) - 1) - 1) - 1) - 1) - 1) - 1) (((((((((((n - (12 : Int32).toNatClampNeg) - (12 : Int32).toNatClampNeg) - (12 : Int32).toNatClampNeg) - (12 : Int32).toNatClampNeg) - (12 : Int32).toNatClampNeg) - (12 : Int32).toNatClampNeg) - (120 : Int32).toNatClampNeg) - (4 : Int32).toNatClampNeg) - (480 : Int32).toNatClampNeg) - (4 : Int32).toNatClampNeg) - (4 : Int32).toNatClampNeg) fun b24 M => (zp D M o 8 13 (.ref b24) fun M => (znewA D M 0 (4 : Int32) ((((((((((((k - 1) - 1) - 1) - 1) - 1) - 1) - 1) - 1) - 1) - 1) - 1) - 1) ((((((((((((n - (12 : Int32).toNatClampNeg) - (12 : Int32).toNatClampNeg) - (12 : Int32).toNatClampNeg) - (12 : Int32).toNatClampNeg) - (12 : Int32).toNatClampNeg) - (12 : Int32).toNatClampNeg) - (120 : Int32).toNatClampNeg) - (4 : Int32).toNatClampNeg) - (480 : Int32).toNatClampNeg) - (4 : Int32).toNatClampNeg) - (4 : Int32).toNatClampNeg) - (4 : Int32).toNatClampNeg) fun b25 M => (zp D M o 8 14 (.ref b25) fun M => (znewA D M 0 (20 : Int32) (((((((((((((k - 1) - 1) - 1) - 1) - 1) - 1) - 1) - 1) - 1) - 1) - 1) - 1) - 1) (((((((((((((n - (12 : Int32).toNatClampNeg) - (12 : Int32).toNatClampNeg) - (12 : Int32).toNatClampNeg) - (12 : Int32).toNatClampNeg) - (12 : Int32).toNatClampNeg) - (12 : Int32).toNatClampNeg) - (120 : Int32).toNatClampNeg) - (4 : Int32).toNatClampNeg) - (480 : Int32).toNatClampNeg) - (4 : Int32).toNatClampNeg) - (4 : Int32).toNatClampNeg) - (4 : Int32).toNatClampNeg) - (4 : Int32).toNatClampNeg) fun b26 M => (zp D M o 8 15 (.ref b26) fun M => (znewA D M 0 (32 : Int32) ((((((((((((((k - 1) - 1) - 1) - 1) - 1) - 1) - 1) - 1) - 1) - 1) - 1) - 1) - 1) - 1) ((((((((((((((n - (12 : Int32).toNatClampNeg) - (12 : Int32).toNatClampNeg) - (12 : Int32).toNatClampNeg) - (12 : Int32).toNatClampNeg) - (12 : Int32).toNatClampNeg) - (12 : Int32).toNatClampNeg) - (120 : Int32).toNatClampNeg) - (4 : Int32).toNatClampNeg) - (480 : Int32).toNatClampNeg) - (4 : Int32).toNatClampNeg) - (4 : Int32).toNatClampNeg) - (4 : Int32).toNatClampNeg) - (4 : Int32).toNatClampNeg) - (20 : Int32).toNatClampNeg) fun b27 M => (zp D M o 8 16 (.ref b27) fun M => (znewA D M 0 (32 : Int32) (((((((((((((((k - 1) - 1) - 1) - 1) - 1) - 1) - 1) - 1) - 1) - 1) - 1) - 1) - 1) - 1) - 1) (((((((((((((((n - (12 : Int32).toNatClampNeg) - (12 : Int32).toNatClampNeg) - (12 : Int32).toNatClampNeg) - (12 : Int32).toNatClampNeg) - (12 : Int32).toNatClampNeg) - (12 : Int32).toNatClampNeg) - (120 : Int32).toNatClampNeg) - (4 : Int32).toNatClampNeg) - (480 : Int32).toNatClampNeg) - (4 : Int32).toNatClampNeg) - (4 : Int32).toNatClampNeg) - (4 : Int32).toNatClampNeg) - (4 : Int32).toNatClampNeg) - (20 : Int32).toNatClampNeg) - (32 : Int32).toNatClampNeg) fun b28 M => (zp D M o 8 17 (.ref b28) fun M => (znewA D M 0 (32 : Int32) ((((((((((((((((k - 1) - 1) - 1) - 1) - 1) - 1) - 1) - 1) - 1) - 1) - 1) - 1) - 1) - 1) - 1) - 1) ((((((((((((((((n - (12 : Int32).toNatClampNeg) - (12 : Int32).toNatClampNeg) - (12 : Int32).toNatClampNeg) - (12 : Int32).toNatClampNeg) - (12 : Int32).toNatClampNeg) - (12 : Int32).toNatClampNeg) - (120 : Int32).toNatClampNeg) - (4 : Int32).toNatClampNeg) - (480 : Int32).toNatClampNeg) - (4 : Int32).toNatClampNeg) - (4 : Int32).toNatClampNeg) - (4 : Int32).toNatClampNeg) - (4 : Int32).toNatClampNeg) - (20 : Int32).toNatClampNeg) - (32 : Int32).toNatClampNeg) - (32 : Int32).toNatClampNeg) fun b29 M => (zp D M o 8 18 (.ref b29) fun M => (znewA D M 0 (32 : Int32) (((((((((((((((((k - 1) - 1) - 1) - 1) - 1) - 1) - 1) - 1) - 1) - 1) - 1) - 1) - 1) - 1) - 1) - 1) - 1) (((((((((((((((((n - (12 : Int32).toNatClampNeg) - (12 : Int32).toNatClampNeg) - (12 : Int32).toNatClampNeg) - (12 : Int32).toNatClampNeg) - (12 : Int32).toNatClampNeg) - (12 : Int32).toNatClampNeg) - (120 : Int32).toNatClampNeg) - (4 : Int32).toNatClampNeg) - (480 : Int32).toNatClampNeg) - (4 : Int32).toNatClampNeg) - (4 : Int32).toNatClampNeg) - (4 : Int32).toNatClampNeg) - (4 : Int32).toNatClampNeg) - (20 : Int32).toNatClampNeg) - (32 : Int32).toNatClampNeg) - (32 : Int32).toNatClampNeg) - (32 : Int32).toNatClampNeg) fun b30 M => (zp D M o 8 19 (.ref b30) fun M => (znewA D M 0 (320 : Int32) ((((((((((((((((((k - 1) - 1) - 1) - 1) - 1) - 1) - 1) - 1) - 1) - 1) - 1) - 1) - 1) - 1) - 1) - 1) - 1) - 1) ((((((((((((((((((n - (12 : Int32).toNatClampNeg) - (12 : Int32).toNatClampNeg) - (12 : Int32).toNatClampNeg) - (12 : Int32).toNatClampNeg) - (12 : Int32).toNatClampNeg) - (12 : Int32).toNatClampNeg) - (120 : Int32).toNatClampNeg) - (4 : Int32).toNatClampNeg) - (480 : Int32).toNatClampNeg) - (4 : Int32).toNatClampNeg) - (4 : Int32).toNatClampNeg) - (4 : Int32).toNatClampNeg) - (4 : Int32).toNatClampNeg) - (20 : Int32).toNatClampNeg) - (32 : Int32).toNatClampNeg) - (32 : Int32).toNatClampNeg) - (32 : Int32).toNatClampNeg) - (32 : Int32).toNatClampNeg) fun b31 M => (zp D M o 8 20 (.ref b31) fun M => (znewA D M 0 (320 : Int32) (((((((((((((((((((k - 1) - 1) - 1) - 1) - 1) - 1) - 1) - 1) - 1) - 1) - 1) - 1) - 1) - 1) - 1) - 1) - 1) - 1) - 1) (((((((((((((((((((n - (12 : Int32).toNatClampNeg) - (12 : Int32).toNatClampNeg) - (12 : Int32).toNatClampNeg) - (12 : Int32).toNatClampNeg) - (12 : Int32).toNatClampNeg) - (12 : Int32).toNatClampNeg) - (120 : Int32).toNatClampNeg) - (4 : Int32).toNatClampNeg) - (480 : Int32).toNatClampNeg) - (4 : Int32).toNatClampNeg) - (4 : Int32).toNatClampNeg) - (4 : Int32).toNatClampNeg) - (4 : Int32).toNatClampNeg) - (20 : Int32).toNatClampNeg) - (32 : Int32).toNatClampNeg) - (32 : Int32).toNatClampNeg) - (32 : Int32).toNatClampNeg) - (32 : Int32).toNatClampNeg) - (320 : Int32).toNatClampNeg) fun b32 M => (zp D M o 8 21 (.ref b32) fun M => (znewA D M 0 (32 : Int32) ((((((((((((((((((((k - 1) - 1) - 1) - 1) - 1) - 1) - 1) - 1) - 1) - 1) - 1) - 1) - 1) - 1) - 1) - 1) - 1) - 1) - 1) - 1) ((((((((((((((((((((n - (12 : Int32).toNatClampNeg) - (12 : Int32).toNatClampNeg) - (12 : Int32).toNatClampNeg) - (12 : Int32).toNatClampNeg) - (12 : Int32).toNatClampNeg) - (12 : Int32).toNatClampNeg) - (120 : Int32).toNatClampNeg) - (4 : Int32).toNatClampNeg) - (480 : Int32).toNatClampNeg) - (4 : Int32).toNatClampNeg) - (4 : Int32).toNatClampNeg) - (4 : Int32).toNatClampNeg) - (4 : Int32).toNatClampNeg) - (20 : Int32).toNatClampNeg) - (32 : Int32).toNatClampNeg) - (32 : Int32).toNatClampNeg) - (32 : Int32).toNatClampNeg) - (32 : Int32).toNatClampNeg) - (320 : Int32).toNatClampNeg) - (320 : Int32).toNatClampNeg) fun b33 M => (zp D M o 8 22 (.ref b33) fun M => (znewA D M 0 (5 : Int32) (((((((((((((((((((((k - 1) - 1) - 1) - 1) - 1) - 1) - 1) - 1) - 1) - 1) - 1) - 1) - 1) - 1) - 1) - 1) - 1) - 1) - 1) - 1) - 1) (((((((((((((((((((((n - (12 : Int32).toNatClampNeg) - (12 : Int32).toNatClampNeg) - (12 : Int32).toNatClampNeg) - (12 : Int32).toNatClampNeg) - (12 : Int32).toNatClampNeg) - (12 : Int32).toNatClampNeg) - (120 : Int32).toNatClampNeg) - (4 : Int32).toNatClampNeg) - (480 : Int32).toNatClampNeg) - (4 : Int32).toNatClampNeg) - (4 : Int32).toNatClampNeg) - (4 : Int32).toNatClampNeg) - (4 : Int32).toNatClampNeg) - (20 : Int32).toNatClampNeg) - (32 : Int32).toNatClampNeg) - (32 : Int32).toNatClampNeg) - (32 : Int32).toNatClampNeg) - (32 : Int32).toNatClampNeg) - (320 : Int32).toNatClampNeg) - (320 : Int32).toNatClampNeg) - (32 : Int32).toNatClampNeg) fun b34 M => (zp D M o 8 29 (.ref b34) fun M => (znewA D M 0 (8 : Int32) ((((((((((((((((((((((k - 1) - 1) - 1) - 1) - 1) - 1) - 1) - 1) - 1) - 1) - 1) - 1) - 1) - 1) - 1) - 1) - 1) - 1) - 1) - 1) - 1) - 1) ((((((((((((((((((((((n - (12 : Int32).toNatClampNeg) - (12 : Int32).toNatClampNeg) - (12 : Int32).toNatClampNeg) - (12 : Int32).toNatClampNeg) - (12 : Int32).toNatClampNeg) - (12 : Int32).toNatClampNeg) - (120 : Int32).toNatClampNeg) - (4 : Int32).toNatClampNeg) - (480 : Int32).toNatClampNeg) - (4 : Int32).toNatClampNeg) - (4 : Int32).toNatClampNeg) - (4 : Int32).toNatClampNeg) - (4 : Int32).toNatClampNeg) - (20 : Int32).toNatClampNeg) - (32 : Int32).toNatClampNeg) - (32 : Int32).toNatClampNeg) - (32 : Int32).toNatClampNeg) - (32 : Int32).toNatClampNeg) - (320 : Int32).toNatClampNeg) - (320 : Int32).toNatClampNeg) - (32 : Int32).toNatClampNeg) - (5 : Int32).toNatClampNeg) fun b35 M => (zp D M o 8 30 (.ref b35) fun M => (znewA D M 0 (8 : Int32) (((((((((((((((((((((((k - 1) - 1) - 1) - 1) - 1) - 1) - 1) - 1) - 1) - 1) - 1) - 1) - 1) - 1) - 1) - 1) - 1) - 1) - 1) - 1) - 1) - 1) - 1) (((((((((((((((((((((((n - (12 : Int32).toNatClampNeg) - (12 : Int32).toNatClampNeg) - (12 : Int32).toNatClampNeg) - (12 : Int32).toNatClampNeg) - (12 : Int32).toNatClampNeg) - (12 : Int32).toNatClampNeg) - (120 : Int32).toNatClampNeg) - (4 : Int32).toNatClampNeg) - (480 : Int32).toNatClampNeg) - (4 : Int32).toNatClampNeg) - (4 : Int32).toNatClampNeg) - (4 : Int32).toNatClampNeg) - (4 : Int32).toNatClampNeg) - (20 : Int32).toNatClampNeg) - (32 : Int32).toNatClampNeg) - (32 : Int32).toNatClampNeg) - (32 : Int32).toNatClampNeg) - (32 : Int32).toNatClampNeg) - (320 : Int32).toNatClampNeg) - (320 : Int32).toNatClampNeg) - (32 : Int32).toNatClampNeg) - (5 : Int32).toNatClampNeg) - (8 : Int32).toNatClampNeg) fun b36 M => (zp D M o 8 31 (.ref b36) fun M => (znewA D M 0 (8 : Int32) ((((((((((((((((((((((((k - 1) - 1) - 1) - 1) - 1) - 1) - 1) - 1) - 1) - 1) - 1) - 1) - 1) - 1) - 1) - 1) - 1) - 1) - 1) - 1) - 1) - 1) - 1) - 1) ((((((((((((((((((((((((n - (12 : Int32).toNatClampNeg) - (12 : Int32).toNatClampNeg) - (12 : Int32).toNatClampNeg) - (12 : Int32).toNatClampNeg) - (12 : Int32).toNatClampNeg) - (12 : Int32).toNatClampNeg) - (120 : Int32).toNatClampNeg) - (4 : Int32).toNatClampNeg) - (480 : Int32).toNatClampNeg) - (4 : Int32).toNatClampNeg) - (4 : Int32).toNatClampNeg) - (4 : Int32).toNatClampNeg) - (4 : Int32).toNatClampNeg) - (20 : Int32).toNatClampNeg) - (32 : Int32).toNatClampNeg) - (32 : Int32).toNatClampNeg) - (32 : Int32).toNatClampNeg) - (32 : Int32).toNatClampNeg) - (320 : Int32).toNatClampNeg) - (320 : Int32).toNatClampNeg) - (32 : Int32).toNatClampNeg) - (5 : Int32).toNatClampNeg) - (8 : Int32).toNatClampNeg) - (8 : Int32).toNatClampNeg) fun b37 M => (zp D M o 8 32 (.ref b37) fun M => (znewA D M 0 (8 : Int32) (((((((((((((((((((((((((k - 1) - 1) - 1) - 1) - 1) - 1) - 1) - 1) - 1) - 1) - 1) - 1) - 1) - 1) - 1) - 1) - 1) - 1) - 1) - 1) - 1) - 1) - 1) - 1) - 1) (((((((((((((((((((((((((n - (12 : Int32).toNatClampNeg) - (12 : Int32).toNatClampNeg) - (12 : Int32).toNatClampNeg) - (12 : Int32).toNatClampNeg) - (12 : Int32).toNatClampNeg) - (12 : Int32).toNatClampNeg) - (120 : Int32).toNatClampNeg) - (4 : Int32).toNatClampNeg) - (480 : Int32).toNatClampNeg) - (4 : Int32).toNatClampNeg) - (4 : Int32).toNatClampNeg) - (4 : Int32).toNatClampNeg) - (4 : Int32).toNatClampNeg) - (20 : Int32).toNatClampNeg) - (32 : Int32).toNatClampNeg) - (32 : Int32).toNatClampNeg) - (32 : Int32).toNatClampNeg) - (32 : Int32).toNatClampNeg) - (320 : Int32).toNatClampNeg) - (320 : Int32).toNatClampNeg) - (32 : Int32).toNatClampNeg) - (5 : Int32).toNatClampNeg) - (8 : Int32).toNatClampNeg) - (8 : Int32).toNatClampNeg) - (8 : Int32).toNatClampNeg) fun b38 M => (zp D M o 8 33 (.ref b38) fun M => (znewA D M 0 (80 : Int32) ((((((((((((((((((((((((((k - 1) - 1) - 1) - 1) - 1) - 1) - 1) - 1) - 1) - 1) - 1) - 1) - 1) - 1) - 1) - 1) - 1) - 1) - 1) - 1) - 1) - 1) - 1) - 1) - 1) - 1) ((((((((((((((((((((((((((n - (12 : Int32).toNatClampNeg) - (12 : Int32).toNatClampNeg) - (12 : Int32).toNatClampNeg) - (12 : Int32).toNatClampNeg) - (12 : Int32).toNatClampNeg) - (12 : Int32).toNatClampNeg) - (120 : Int32).toNatClampNeg) - (4 : Int32).toNatClampNeg) - (480 : Int32).toNatClampNeg) - (4 : Int32).toNatClampNeg) - (4 : Int32).toNatClampNeg) - (4 : Int32).toNatClampNeg) - (4 : Int32).toNatClampNeg) - (20 : Int32).toNatClampNeg) - (32 : Int32).toNatClampNeg) - (32 : Int32).toNatClampNeg) - (32 : Int32).toNatClampNeg) - (32 : Int32).toNatClampNeg) - (320 : Int32).toNatClampNeg) - (320 : Int32).toNatClampNeg) - (32 : Int32).toNatClampNeg) - (5 : Int32).toNatClampNeg) - (8 : Int32).toNatClampNeg) - (8 : Int32).toNatClampNeg) - (8 : Int32).toNatClampNeg) - (8 : Int32).toNatClampNeg) fun b39 M => (zp D M o 8 34 (.ref b39) fun M => (znewA D M 0 (80 : Int32) (((((((((((((((((((((((((((k - 1) - 1) - 1) - 1) - 1) - 1) - 1) - 1) - 1) - 1) - 1) - 1) - 1) - 1) - 1) - 1) - 1) - 1) - 1) - 1) - 1) - 1) - 1) - 1) - 1) - 1) - 1) (((((((((((((((((((((((((((n - (12 : Int32).toNatClampNeg) - (12 : Int32).toNatClampNeg) - (12 : Int32).toNatClampNeg) - (12 : Int32).toNatClampNeg) - (12 : Int32).toNatClampNeg) - (12 : Int32).toNatClampNeg) - (120 : Int32).toNatClampNeg) - (4 : Int32).toNatClampNeg) - (480 : Int32).toNatClampNeg) - (4 : Int32).toNatClampNeg) - (4 : Int32).toNatClampNeg) - (4 : Int32).toNatClampNeg) - (4 : Int32).toNatClampNeg) - (20 : Int32).toNatClampNeg) - (32 : Int32).toNatClampNeg) - (32 : Int32).toNatClampNeg) - (32 : Int32).toNatClampNeg) - (32 : Int32).toNatClampNeg) - (320 : Int32).toNatClampNeg) - (320 : Int32).toNatClampNeg) - (32 : Int32).toNatClampNeg) - (5 : Int32).toNatClampNeg) - (8 : Int32).toNatClampNeg) - (8 : Int32).toNatClampNeg) - (8 : Int32).toNatClampNeg) - (8 : Int32).toNatClampNeg) - (80 : Int32).toNatClampNeg) fun b40 M => (zp D M o 8 35 (.ref b40) fun M => (znewA D M 0 (8 : Int32) ((((((((((((((((((((((((((((k - 1) - 1) - 1) - 1) - 1) - 1) - 1) - 1) - 1) - 1) - 1) - 1) - 1) - 1) - 1) - 1) - 1) - 1) - 1) - 1) - 1) - 1) - 1) - 1) - 1) - 1) - 1) - 1) ((((((((((((((((((((((((((((n - (12 : Int32).toNatClampNeg) - (12 : Int32).toNatClampNeg) - (12 : Int32).toNatClampNeg) - (12 : Int32).toNatClampNeg) - (12 : Int32).toNatClampNeg) - (12 : Int32).toNatClampNeg) - (120 : Int32).toNatClampNeg) - (4 : Int32).toNatClampNeg) - (480 : Int32).toNatClampNeg) - (4 : Int32).toNatClampNeg) - (4 : Int32).toNatClampNeg) - (4 : Int32).toNatClampNeg) - (4 : Int32).toNatClampNeg) - (20 : Int32).toNatClampNeg) - (32 : Int32).toNatClampNeg) - (32 : Int32).toNatClampNeg) - (32 : Int32).toNatClampNeg) - (32 : Int32).toNatClampNeg) - (320 : Int32).toNatClampNeg) - (320 : Int32).toNatClampNeg) - (32 : Int32).toNatClampNeg) - (5 : Int32).toNatClampNeg) - (8 : Int32).toNatClampNeg) - (8 : Int32).toNatClampNeg) - (8 : Int32).toNatClampNeg) - (8 : Int32).toNatClampNeg) - (80 : Int32).toNatClampNeg) - (80 : Int32).toNatClampNeg) fun b41 M => (zp D M o 8 36 (.ref b41) fun M => (znewA D M 0 (5 : Int32) (((((((((((((((((((((((((((((k - 1) - 1) - 1) - 1) - 1) - 1) - 1) - 1) - 1) - 1) - 1) - 1) - 1) - 1) - 1) - 1) - 1) - 1) - 1) - 1) - 1) - 1) - 1) - 1) - 1) - 1) - 1) - 1) - 1) (((((((((((((((((((((((((((((n - (12 : Int32).toNatClampNeg) - (12 : Int32).toNatClampNeg) - (12 : Int32).toNatClampNeg) - (12 : Int32).toNatClampNeg) - (12 : Int32).toNatClampNeg) - (12 : Int32).toNatClampNeg) - (120 : Int32).toNatClampNeg) - (4 : Int32).toNatClampNeg) - (480 : Int32).toNatClampNeg) - (4 : Int32).toNatClampNeg) - (4 : Int32).toNatClampNeg) - (4 : Int32).toNatClampNeg) - (4 : Int32).toNatClampNeg) - (20 : Int32).toNatClampNeg) - (32 : Int32).toNatClampNeg) - (32 : Int32).toNatClampNeg) - (32 : Int32).toNatClampNeg) - (32 : Int32).toNatClampNeg) - (320 : Int32).toNatClampNeg) - (320 : Int32).toNatClampNeg) - (32 : Int32).toNatClampNeg) - (5 : Int32).toNatClampNeg) - (8 : Int32).toNatClampNeg) - (8 : Int32).toNatClampNeg) - (8 : Int32).toNatClampNeg) - (8 : Int32).toNatClampNeg) - (80 : Int32).toNatClampNeg) - (80 : Int32).toNatClampNeg) - (8 : Int32).toNatClampNeg) fun b42 M => (zp D M o 8 41 (.ref b42) fun M => (znewA D M 0 (5 : Int32) ((((((((((((((((((((((((((((((k - 1) - 1) - 1) - 1) - 1) - 1) - 1) - 1) - 1) - 1) - 1) - 1) - 1) - 1) - 1) - 1) - 1) - 1) - 1) - 1) - 1) - 1) - 1) - 1) - 1) - 1) - 1) - 1) - 1) - 1) ((((((((((((((((((((((((((((((n - (12 : Int32).toNatClampNeg) - (12 : Int32).toNatClampNeg) - (12 : Int32).toNatClampNeg) - (12 : Int32).toNatClampNeg) - (12 : Int32).toNatClampNeg) - (12 : Int32).toNatClampNeg) - (120 : Int32).toNatClampNeg) - (4 : Int32).toNatClampNeg) - (480 : Int32).toNatClampNeg) - (4 : Int32).toNatClampNeg) - (4 : Int32).toNatClampNeg) - (4 : Int32).toNatClampNeg) - (4 : Int32).toNatClampNeg) - (20 : Int32).toNatClampNeg) - (32 : Int32).toNatClampNeg) - (32 : Int32).toNatClampNeg) - (32 : Int32).toNatClampNeg) - (32 : Int32).toNatClampNeg) - (320 : Int32).toNatClampNeg) - (320 : Int32).toNatClampNeg) - (32 : Int32).toNatClampNeg) - (5 : Int32).toNatClampNeg) - (8 : Int32).toNatClampNeg) - (8 : Int32).toNatClampNeg) - (8 : Int32).toNatClampNeg) - (8 : Int32).toNatClampNeg) - (80 : Int32).toNatClampNeg) - (80 : Int32).toNatClampNeg) - (8 : Int32).toNatClampNeg) - (5 : Int32).toNatClampNeg) fun b43 M => (zp D M o 8 42 (.ref b43) fun M => (znewA D M 0 (5 : Int32) (((((((((((((((((((((((((((((((k - 1) - 1) - 1) - 1) - 1) - 1) - 1) - 1) - 1) - 1) - 1) - 1) - 1) - 1) - 1) - 1) - 1) - 1) - 1) - 1) - 1) - 1) - 1) - 1) - 1) - 1) - 1) - 1) - 1) - 1) - 1) (((((((((((((((((((((((((((((((n - (12 : Int32).toNatClampNeg) - (12 : Int32).toNatClampNeg) - (12 : Int32).toNatClampNeg) - (12 : Int32).toNatClampNeg) - (12 : Int32).toNatClampNeg) - (12 : Int32).toNatClampNeg) - (120 : Int32).toNatClampNeg) - (4 : Int32).toNatClampNeg) - (480 : Int32).toNatClampNeg) - (4 : Int32).toNatClampNeg) - (4 : Int32).toNatClampNeg) - (4 : Int32).toNatClampNeg) - (4 : Int32).toNatClampNeg) - (20 : Int32).toNatClampNeg) - (32 : Int32).toNatClampNeg) - (32 : Int32).toNatClampNeg) - (32 : Int32).toNatClampNeg) - (32 : Int32).toNatClampNeg) - (320 : Int32).toNatClampNeg) - (320 : Int32).toNatClampNeg) - (32 : Int32).toNatClampNeg) - (5 : Int32).toNatClampNeg) - (8 : Int32).toNatClampNeg) - (8 : Int32).toNatClampNeg) - (8 : Int32).toNatClampNeg) - (8 : Int32).toNatClampNeg) - (80 : Int32).toNatClampNeg) - (80 : Int32).toNatClampNeg) - (8 : Int32).toNatClampNeg) - (5 : Int32).toNatClampNeg) - (5 : Int32).toNatClampNeg) fun b44 M => (zp D M o 8 43 (.ref b44) fun M => (znewA D M 0 (30 : Int32) ((((((((((((((((((((((((((((((((k - 1) - 1) - 1) - 1) - 1) - 1) - 1) - 1) - 1) - 1) - 1) - 1) - 1) - 1) - 1) - 1) - 1) - 1) - 1) - 1) - 1) - 1) - 1) - 1) - 1) - 1) - 1) - 1) - 1) - 1) - 1) - 1) ((((((((((((((((((((((((((((((((n - (12 : Int32).toNatClampNeg) - (12 : Int32).toNatClampNeg) - (12 : Int32).toNatClampNeg) - (12 : Int32).toNatClampNeg) - (12 : Int32).toNatClampNeg) - (12 : Int32).toNatClampNeg) - (120 : Int32).toNatClampNeg) - (4 : Int32).toNatClampNeg) - (480 : Int32).toNatClampNeg) - (4 : Int32).toNatClampNeg) - (4 : Int32).toNatClampNeg) - (4 : Int32).toNatClampNeg) - (4 : Int32).toNatClampNeg) - (20 : Int32).toNatClampNeg) - (32 : Int32).toNatClampNeg) - (32 : Int32).toNatClampNeg) - (32 : Int32).toNatClampNeg) - (32 : Int32).toNatClampNeg) - (320 : Int32).toNatClampNeg) - (320 : Int32).toNatClampNeg) - (32 : Int32).toNatClampNeg) - (5 : Int32).toNatClampNeg) - (8 : Int32).toNatClampNeg) - (8 : Int32).toNatClampNeg) - (8 : Int32).toNatClampNeg) - (8 : Int32).toNatClampNeg) - (80 : Int32).toNatClampNeg) - (80 : Int32).toNatClampNeg) - (8 : Int32).toNatClampNeg) - (5 : Int32).toNatClampNeg) - (5 : Int32).toNatClampNeg) - (5 : Int32).toNatClampNeg) fun b45 M => (zp D M o 8 44 (.ref b45) fun M => (znewA D M 0 (240 : Int32) (((((((((((((((((((((((((((((((((k - 1) - 1) - 1) - 1) - 1) - 1) - 1) - 1) - 1) - 1) - 1) - 1) - 1) - 1) - 1) - 1) - 1) - 1) - 1) - 1) - 1) - 1) - 1) - 1) - 1) - 1) - 1) - 1) - 1) - 1) - 1) - 1) - 1) (((((((((((((((((((((((((((((((((n - (12 : Int32).toNatClampNeg) - (12 : Int32).toNatClampNeg) - (12 : Int32).toNatClampNeg) - (12 : Int32).toNatClampNeg) - (12 : Int32).toNatClampNeg) - (12 : Int32).toNatClampNeg) - (120 : Int32).toNatClampNeg) - (4 : Int32).toNatClampNeg) - (480 : Int32).toNatClampNeg) - (4 : Int32).toNatClampNeg) - (4 : Int32).toNatClampNeg) - (4 : Int32).toNatClampNeg) - (4 : Int32).toNatClampNeg) - (20 : Int32).toNatClampNeg) - (32 : Int32).toNatClampNeg) - (32 : Int32).toNatClampNeg) - (32 : Int32).toNatClampNeg) - (32 : Int32).toNatClampNeg) - (320 : Int32).toNatClampNeg) - (320 : Int32).toNatClampNeg) - (32 : Int32).toNatClampNeg) - (5 : Int32).toNatClampNeg) - (8 : Int32).toNatClampNeg) - (8 : Int32).toNatClampNeg) - (8 : Int32).toNatClampNeg) - (8 : Int32).toNatClampNeg) - (80 : Int32).toNatClampNeg) - (80 : Int32).toNatClampNeg) - (8 : Int32).toNatClampNeg) - (5 : Int32).toNatClampNeg) - (5 : Int32).toNatClampNeg) - (5 : Int32).toNatClampNeg) - (30 : Int32).toNatClampNeg) fun b46 M => (zp D M o 8 45 (.ref b46) fun M => (znewA D M 0 (600 : Int32) ((((((((((((((((((((((((((((((((((k - 1) - 1) - 1) - 1) - 1) - 1) - 1) - 1) - 1) - 1) - 1) - 1) - 1) - 1) - 1) - 1) - 1) - 1) - 1) - 1) - 1) - 1) - 1) - 1) - 1) - 1) - 1) - 1) - 1) - 1) - 1) - 1) - 1) - 1) ((((((((((((((((((((((((((((((((((n - (12 : Int32).toNatClampNeg) - (12 : Int32).toNatClampNeg) - (12 : Int32).toNatClampNeg) - (12 : Int32).toNatClampNeg) - (12 : Int32).toNatClampNeg) - (12 : Int32).toNatClampNeg) - (120 : Int32).toNatClampNeg) - (4 : Int32).toNatClampNeg) - (480 : Int32).toNatClampNeg) - (4 : Int32).toNatClampNeg) - (4 : Int32).toNatClampNeg) - (4 : Int32).toNatClampNeg) - (4 : Int32).toNatClampNeg) - (20 : Int32).toNatClampNeg) - (32 : Int32).toNatClampNeg) - (32 : Int32).toNatClampNeg) - (32 : Int32).toNatClampNeg) - (32 : Int32).toNatClampNeg) - (320 : Int32).toNatClampNeg) - (320 : Int32).toNatClampNeg) - (32 : Int32).toNatClampNeg) - (5 : Int32).toNatClampNeg) - (8 : Int32).toNatClampNeg) - (8 : Int32).toNatClampNeg) - (8 : Int32).toNatClampNeg) - (8 : Int32).toNatClampNeg) - (80 : Int32).toNatClampNeg) - (80 : Int32).toNatClampNeg) - (8 : Int32).toNatClampNeg) - (5 : Int32).toNatClampNeg) - (5 : Int32).toNatClampNeg) - (5 : Int32).toNatClampNeg) - (30 : Int32).toNatClampNeg) - (240 : Int32).toNatClampNeg) fun b47 M => (zp D M o 8 47 (.ref b47) fun M => (znewA D M 0 (3 : Int32) (((((((((((((((((((((((((((((((((((k - 1) - 1) - 1) - 1) - 1) - 1) - 1) - 1) - 1) - 1) - 1) - 1) - 1) - 1) - 1) - 1) - 1) - 1) - 1) - 1) - 1) - 1) - 1) - 1) - 1) - 1) - 1) - 1) - 1) - 1) - 1) - 1) - 1) - 1) - 1) (((((((((((((((((((((((((((((((((((n - (12 : Int32).toNatClampNeg) - (12 : Int32).toNatClampNeg) - (12 : Int32).toNatClampNeg) - (12 : Int32).toNatClampNeg) - (12 : Int32).toNatClampNeg) - (12 : Int32).toNatClampNeg) - (120 : Int32).toNatClampNeg) - (4 : Int32).toNatClampNeg) - (480 : Int32).toNatClampNeg) - (4 : Int32).toNatClampNeg) - (4 : Int32).toNatClampNeg) - (4 : Int32).toNatClampNeg) - (4 : Int32).toNatClampNeg) - (20 : Int32).toNatClampNeg) - (32 : Int32).toNatClampNeg) - (32 : Int32).toNatClampNeg) - (32 : Int32).toNatClampNeg) - (32 : Int32).toNatClampNeg) - (320 : Int32).toNatClampNeg) - (320 : Int32).toNatClampNeg) - (32 : Int32).toNatClampNeg) - (5 : Int32).toNatClampNeg) - (8 : Int32).toNatClampNeg) - (8 : Int32).toNatClampNeg) - (8 : Int32).toNatClampNeg) - (8 : Int32).toNatClampNeg) - (80 : Int32).toNatClampNeg) - (80 : Int32).toNatClampNeg) - (8 : Int32).toNatClampNeg) - (5 : Int32).toNatClampNeg) - (5 : Int32).toNatClampNeg) - (5 : Int32).toNatClampNeg) - (30 : Int32).toNatClampNeg) - (240 : Int32).toNatClampNeg) - (600 : Int32).toNatClampNeg) fun b48 M => (zp D M o 8 51 (.ref b48) fun M => (znewA D M 0 (3 : Int32) ((((((((((((((((((((((((((((((((((((k - 1) - 1) - 1) - 1) - 1) - 1) - 1) - 1) - 1) - 1) - 1) - 1) - 1) - 1) - 1) - 1) - 1) - 1) - 1) - 1) - 1) - 1) - 1) - 1) - 1) - 1) - 1) - 1) - 1) - 1) - 1) - 1) - 1) - 1) - 1) - 1) ((((((((((((((((((((((((((((((((((((n - (12 : Int32).toNatClampNeg) - (12 : Int32).toNatClampNeg) - (12 : Int32).toNatClampNeg) - (12 : Int32).toNatClampNeg) - (12 : Int32).toNatClampNeg) - (12 : Int32).toNatClampNeg) - (120 : Int32).toNatClampNeg) - (4 : Int32).toNatClampNeg) - (480 : Int32).toNatClampNeg) - (4 : Int32).toNatClampNeg) - (4 : Int32).toNatClampNeg) - (4 : Int32).toNatClampNeg) - (4 : Int32).toNatClampNeg) - (20 : Int32).toNatClampNeg) - (32 : Int32).toNatClampNeg) - (32 : Int32).toNatClampNeg) - (32 : Int32).toNatClampNeg) - (32 : Int32).toNatClampNeg) - (320 : Int32).toNatClampNeg) - (320 : Int32).toNatClampNeg) - (32 : Int32).toNatClampNeg) - (5 : Int32).toNatClampNeg) - (8 : Int32).toNatClampNeg) - (8 : Int32).toNatClampNeg) - (8 : Int32).toNatClampNeg) - (8 : Int32).toNatClampNeg) - (80 : Int32).toNatClampNeg) - (80 : Int32).toNatClampNeg) - (8 : Int32).toNatClampNeg) - (5 : Int32).toNatClampNeg) - (5 : Int32).toNatClampNeg) - (5 : Int32).toNatClampNeg) - (30 : Int32).toNatClampNeg) - (240 : Int32).toNatClampNeg) - (600 : Int32).toNatClampNeg) - (3 : Int32).toNatClampNeg) fun b49 M => (zp D M o 8 52 (.ref b49) fun M => (znewA D M 3 (90 : Int32) (((((((((((((((((((((((((((((((((((((k - 1) - 1) - 1) - 1) - 1) - 1) - 1) - 1) - 1) - 1) - 1) - 1) - 1) - 1) - 1) - 1) - 1) - 1) - 1) - 1) - 1) - 1) - 1) - 1) - 1) - 1) - 1) - 1) - 1) - 1) - 1) - 1) - 1) - 1) - 1) - 1) - 1) (((((((((((((((((((((((((((((((((((((n - (12 : Int32).toNatClampNeg) - (12 : Int32).toNatClampNeg) - (12 : Int32).toNatClampNeg) - (12 : Int32).toNatClampNeg) - (12 : Int32).toNatClampNeg) - (12 : Int32).toNatClampNeg) - (120 : Int32).toNatClampNeg) - (4 : Int32).toNatClampNeg) - (480 : Int32).toNatClampNeg) - (4 : Int32).toNatClampNeg) - (4 : Int32).toNatClampNeg) - (4 : Int32).toNatClampNeg) - (4 : Int32).toNatClampNeg) - (20 : Int32).toNatClampNeg) - (32 : Int32).toNatClampNeg) - (32 : Int32).toNatClampNeg) - (32 : Int32).toNatClampNeg) - (32 : Int32).toNatClampNeg) - (320 : Int32).toNatClampNeg) - (320 : Int32).toNatClampNeg) - (32 : Int32).toNatClampNeg) - (5 : Int32).toNatClampNeg) - (8 : Int32).toNatClampNeg) - (8 : Int32).toNatClampNeg) - (8 : Int32).toNatClampNeg) - (8 : Int32).toNatClampNeg) - (80 : Int32).toNatClampNeg) - (80 : Int32).toNatClampNeg) - (8 : Int32).toNatClampNeg) - (5 : Int32).toNatClampNeg) - (5 : Int32).toNatClampNeg) - (5 : Int32).toNatClampNeg) - (30 : Int32).toNatClampNeg) - (240 : Int32).toNatClampNeg) - (600 : Int32).toNatClampNeg) - (3 : Int32).toNatClampNeg) - (3 : Int32).toNatClampNeg) fun b50 M => (zp D M o 8 53 (.ref b50) fun M => (znewA D M 4 (90 : Int32) ((((((((((((((((((((((((((((((((((((((k - 1) - 1) - 1) - 1) - 1) - 1) - 1) - 1) - 1) - 1) - 1) - 1) - 1) - 1) - 1) - 1) - 1) - 1) - 1) - 1) - 1) - 1) - 1) - 1) - 1) - 1) - 1) - 1) - 1) - 1) - 1) - 1) - 1) - 1) - 1) - 1) - 1) - 1) ((((((((((((((((((((((((((((((((((((((n - (12 : Int32).toNatClampNeg) - (12 : Int32).toNatClampNeg) - (12 : Int32).toNatClampNeg) - (12 : Int32).toNatClampNeg) - (12 : Int32).toNatClampNeg) - (12 : Int32).toNatClampNeg) - (120 : Int32).toNatClampNeg) - (4 : Int32).toNatClampNeg) - (480 : Int32).toNatClampNeg) - (4 : Int32).toNatClampNeg) - (4 : Int32).toNatClampNeg) - (4 : Int32).toNatClampNeg) - (4 : Int32).toNatClampNeg) - (20 : Int32).toNatClampNeg) - (32 : Int32).toNatClampNeg) - (32 : Int32).toNatClampNeg) - (32 : Int32).toNatClampNeg) - (32 : Int32).toNatClampNeg) - (320 : Int32).toNatClampNeg) - (320 : Int32).toNatClampNeg) - (32 : Int32).toNatClampNeg) - (5 : Int32).toNatClampNeg) - (8 : Int32).toNatClampNeg) - (8 : Int32).toNatClampNeg) - (8 : Int32).toNatClampNeg) - (8 : Int32).toNatClampNeg) - (80 : Int32).toNatClampNeg) - (80 : Int32).toNatClampNeg) - (8 : Int32).toNatClampNeg) - (5 : Int32).toNatClampNeg) - (5 : Int32).toNatClampNeg) - (5 : Int32).toNatClampNeg) - (30 : Int32).toNatClampNeg) - (240 : Int32).toNatClampNeg) - (600 : Int32).toNatClampNeg) - (3 : Int32).toNatClampNeg) - (3 : Int32).toNatClampNeg) - (90 : Int32).toNatClampNeg) fun b51 M => (zp D M o 8 54 (.ref b51) fun M => (znewA D M 2 (90 : Int32) (((((((((((((((((((((((((((((((((((((((k - 1) - 1) - 1) - 1) - 1) - 1) - 1) - 1) - 1) - 1) - 1) - 1) - 1) - 1) - 1) - 1) - 1) - 1) - 1) - 1) - 1) - 1) - 1) - 1) - 1) - 1) - 1) - 1) - 1) - 1) - 1) - 1) - 1) - 1) - 1) - 1) - 1) - 1) - 1) (((((((((((((((((((((((((((((((((((((((n - (12 : Int32).toNatClampNeg) - (12 : Int32).toNatClampNeg) - (12 : Int32).toNatClampNeg) - (12 : Int32).toNatClampNeg) - (12 : Int32).toNatClampNeg) - (12 : Int32).toNatClampNeg) - (120 : Int32).toNatClampNeg) - (4 : Int32).toNatClampNeg) - (480 : Int32).toNatClampNeg) - (4 : Int32).toNatClampNeg) - (4 : Int32).toNatClampNeg) - (4 : Int32).toNatClampNeg) - (4 : Int32).toNatClampNeg) - (20 : Int32).toNatClampNeg) - (32 : Int32).toNatClampNeg) - (32 : Int32).toNatClampNeg) - (32 : Int32).toNatClampNeg) - (32 : Int32).toNatClampNeg) - (320 : Int32).toNatClampNeg) - (320 : Int32).toNatClampNeg) - (32 : Int32).toNatClampNeg) - (5 : Int32).toNatClampNeg) - (8 : Int32).toNatClampNeg) - (8 : Int32).toNatClampNeg) - (8 : Int32).toNatClampNeg) - (8 : Int32).toNatClampNeg) - (80 : Int32).toNatClampNeg) - (80 : Int32).toNatClampNeg) - (8 : Int32).toNatClampNeg) - (5 : Int32).toNatClampNeg) - (5 : Int32).toNatClampNeg) - (5 : Int32).toNatClampNeg) - (30 : Int32).toNatClampNeg) - (240 : Int32).toNatClampNeg) - (600 : Int32).toNatClampNeg) - (3 : Int32).toNatClampNeg) - (3 : Int32).toNatClampNeg) - (90 : Int32).toNatClampNeg) - (90 : Int32).toNatClampNeg) fun b52 M => (zp D M o 8 55 (.ref b52) fun M => (∃ f, wp_X9_init_L320 D post o f ((((((((((((((((((((((((((((((((((((((((k - 1) - 1) - 1) - 1) - 1) - 1) - 1) - 1) - 1) - 1) - 1) - 1) - 1) - 1) - 1) - 1) - 1) - 1) - 1) - 1) - 1) - 1) - 1) - 1) - 1) - 1) - 1) - 1) - 1) - 1) - 1) - 1) - 1) - 1) - 1) - 1) - 1) - 1) - 1) - 1) ((((((((((((((((((((((((((((((((((((((((n - (12 : Int32).toNatClampNeg) - (12 : Int32).toNatClampNeg) - (12 : Int32).toNatClampNeg) - (12 : Int32).toNatClampNeg) - (12 : Int32).toNatClampNeg) - (12 : Int32).toNatClampNeg) - (120 : Int32).toNatClampNeg) - (4 : Int32).toNatClampNeg) - (480 : Int32).toNatClampNeg) - (4 : Int32).toNatClampNeg) - (4 : Int32).toNatClampNeg) - (4 : Int32).toNatClampNeg) - (4 : Int32).toNatClampNeg) - (20 : Int32).toNatClampNeg) - (32 : Int32).toNatClampNeg) - (32 : Int32).toNatClampNeg) - (32 : Int32).toNatClampNeg) - (32 : Int32).toNatClampNeg) - (320 : Int32).toNatClampNeg) - (320 : Int32).toNatClampNeg) - (32 : Int32).toNatClampNeg) - (5 : Int32).toNatClampNeg) - (8 : Int32).toNatClampNeg) - (8 : Int32).toNatClampNeg) - (8 : Int32).toNatClampNeg) - (8 : Int32).toNatClampNeg) - (80 : Int32).toNatClampNeg) - (80 : Int32).toNatClampNeg) - (8 : Int32).toNatClampNeg) - (5 : Int32).toNatClampNeg) - (5 : Int32).toNatClampNeg) - (5 : Int32).toNatClampNeg) - (30 : Int32).toNatClampNeg) - (240 : Int32).toNatClampNeg) - (600 : Int32).toNatClampNeg) - (3 : Int32).toNatClampNeg) - (3 : Int32).toNatClampNeg) - (90 : Int32).toNatClampNeg) - (90 : Int32).toNatClampNeg) - (90 : Int32).toNatClampNeg) (0 : Int32) M)))))))))))))))))))))))))))))))))))))))))))))))))))))))))))))))))))))))))))))))))
set_option maxHeartbeats 4000000 in
set_option maxRecDepth 100000 in
theorem w_X9_init {l : Launch} {D : zD} {post : Unit → zM → Prop} (hlt : l.stackTraces = false) {k : Nat} {n : Nat} {o : Nat} {M : zM} (hw : wp_X9_init D post k n o M) : zMet l D yX9_init (ws_ yX9_init cX9_init 2 (none)) (rm_X9_init k n) k n [.ref o] M zU post (fun _ _ => False) := by
  unfold wp_X9_init at hw
  have key : ∀ K N : Nat, k ≤ K → n ≤ N → zMet l D yX9_init (ws_ yX9_init cX9_init 2 (none)) (rm_X9_init K N) K N [.ref o] M zU post (fun _ _ => False) := by
    intro K N hkK hnN
    have hlv : lv_args 0 [.ref o] = [(0, .ref o)] := (zargs1 rfl rfl)
    refine z_ofW hlt (by decide) (Nat.le_trans (zsl1 rfl (Nat.le_refl 0 : (lg_sl []).length ≤ 0)) (Nat.le_of_ble_eq_true rfl)) hlv ?_
    intro p e s m args below meth c ls hG hZ hl
    have hC := hG.1
    have hx := hC.x
    have hb := hC.b
    have hown := hC.o
    have hts := hC.ts
    have hlt := hG.2.2.2.2.2
    obtain ⟨cells, hce⟩ : ∃ z : Nat, z = 0 := ⟨0, rfl⟩
    obtain ⟨slots, hsl⟩ : ∃ z : Nat, z = 0 := ⟨0, rfl⟩
    refine W.cs (cells' := cells) (slots' := slots) hce.symm hsl.symm ?_
    have hk : cells + k ≤ K := by omega
    have hn : slots + n ≤ N := by omega
    clear hce hsl
    refine lv_aload_n hx hb dX9_init_0 rfl (lv_at hl 0 rfl) ?_
    refine W.objInit hx hb hown (hts _ q1719) (hts _ q124) (hts _ q125) rfl (by rw [hC.ml]; exact hl.1) rfl dX9_init_1 (Nat.le_of_ble_eq_true rfl) (Nat.le_of_ble_eq_true rfl) ?_
    refine W.eq (g2 := F0 m 4 ls []) rfl ?_
    refine lv_aload_n hx hb dX9_init_4 rfl (lv_at hl 0 rfl) ?_
    refine lv_bipush (v := 12) hx hb dX9_init_5 (by decide) ?_
    obtain ⟨hx1, hx2, hk1, hn1, hw⟩ := hw
    refine z_newa (k := 0) (a0 := zna 0 (12 : Int32).toNatClampNeg) (atype := .int) hC hZ q336 rfl (by decide) (fun _ => rfl) hx1 rfl (z_bytes hx2 (by decide)) (show cells + 1 ≤ K by omega) (show slots + (12 : Int32).toNatClampNeg ≤ N by omega) dX9_init_7 (fun b93 H hq0 hq1 hZ => ?_)
    replace hw := hw b93 hq0 hq1
    replace hZ : zS D (zu M b93 (some (.inl (0, zna 0 (12 : Int32).toNatClampNeg)))) _ _ := hZ
    refine W.cs (cells' := cells + 1) (slots' := slots + (12 : Int32).toNatClampNeg) rfl rfl ?_
    generalize zu M _ _ = M at hw hZ
    have hk : cells + 1 + (k - 1) ≤ K := by omega
    have hn : slots + (12 : Int32).toNatClampNeg + (n - (12 : Int32).toNatClampNeg) ≤ N := by omega
    generalize k - 1 = k at hk hw
    generalize n - (12 : Int32).toNatClampNeg = n at hn hw
    generalize cells + 1 = cells at hk ⊢
    generalize slots + (12 : Int32).toNatClampNeg = slots at hn ⊢
    clear hk1 hn1 hx1 hx2
    obtain ⟨fs0, hM0, hb0, hk0, hw⟩ := hw
    refine z_putF hC hZ hM0 hb0 zc8 1 (by decide) q1721 (fun _ h9 => h9) (by decide) hG.2.2.2.1 rfl rfl rfl hk0 dX9_init_9 (fun H locs hZ => ?_)
    generalize zu M _ _ = M at hw hZ
    refine lv_aload_n hx hb dX9_init_12 rfl (lv_at hl 0 rfl) ?_
    refine lv_bipush (v := 12) hx hb dX9_init_13 (by decide) ?_
    obtain ⟨hx1, hx2, hk1, hn1, hw⟩ := hw
    refine z_newa (k := 0) (a0 := zna 0 (12 : Int32).toNatClampNeg) (atype := .int) hC hZ q336 rfl (by decide) (fun _ => rfl) hx1 rfl (z_bytes hx2 (by decide)) (show cells + 1 ≤ K by omega) (show slots + (12 : Int32).toNatClampNeg ≤ N by omega) dX9_init_15 (fun b94 H hq0 hq1 hZ => ?_)
    replace hw := hw b94 hq0 hq1
    replace hZ : zS D (zu M b94 (some (.inl (0, zna 0 (12 : Int32).toNatClampNeg)))) _ _ := hZ
    refine W.cs (cells' := cells + 1) (slots' := slots + (12 : Int32).toNatClampNeg) rfl rfl ?_
    generalize zu M _ _ = M at hw hZ
    have hk : cells + 1 + (k - 1) ≤ K := by omega
    have hn : slots + (12 : Int32).toNatClampNeg + (n - (12 : Int32).toNatClampNeg) ≤ N := by omega
    generalize k - 1 = k at hk hw
    generalize n - (12 : Int32).toNatClampNeg = n at hn hw
    generalize cells + 1 = cells at hk ⊢
    generalize slots + (12 : Int32).toNatClampNeg = slots at hn ⊢
    clear hk1 hn1 hx1 hx2
    obtain ⟨fs0, hM0, hb0, hk0, hw⟩ := hw
    refine z_putF hC hZ hM0 hb0 zc8 2 (by decide) q1722 (fun _ h9 => h9) (by decide) hG.2.2.2.1 rfl rfl rfl hk0 dX9_init_17 (fun H locs hZ => ?_)
    generalize zu M _ _ = M at hw hZ
    refine lv_aload_n hx hb dX9_init_20 rfl (lv_at hl 0 rfl) ?_
    refine lv_bipush (v := 12) hx hb dX9_init_21 (by decide) ?_
    obtain ⟨hx1, hx2, hk1, hn1, hw⟩ := hw
    refine z_newa (k := 0) (a0 := zna 0 (12 : Int32).toNatClampNeg) (atype := .int) hC hZ q336 rfl (by decide) (fun _ => rfl) hx1 rfl (z_bytes hx2 (by decide)) (show cells + 1 ≤ K by omega) (show slots + (12 : Int32).toNatClampNeg ≤ N by omega) dX9_init_23 (fun b95 H hq0 hq1 hZ => ?_)
    replace hw := hw b95 hq0 hq1
    replace hZ : zS D (zu M b95 (some (.inl (0, zna 0 (12 : Int32).toNatClampNeg)))) _ _ := hZ
    refine W.cs (cells' := cells + 1) (slots' := slots + (12 : Int32).toNatClampNeg) rfl rfl ?_
    generalize zu M _ _ = M at hw hZ
    have hk : cells + 1 + (k - 1) ≤ K := by omega
    have hn : slots + (12 : Int32).toNatClampNeg + (n - (12 : Int32).toNatClampNeg) ≤ N := by omega
    generalize k - 1 = k at hk hw
    generalize n - (12 : Int32).toNatClampNeg = n at hn hw
    generalize cells + 1 = cells at hk ⊢
    generalize slots + (12 : Int32).toNatClampNeg = slots at hn ⊢
    clear hk1 hn1 hx1 hx2
    obtain ⟨fs0, hM0, hb0, hk0, hw⟩ := hw
    refine z_putF hC hZ hM0 hb0 zc8 3 (by decide) q1723 (fun _ h9 => h9) (by decide) hG.2.2.2.1 rfl rfl rfl hk0 dX9_init_25 (fun H locs hZ => ?_)
    generalize zu M _ _ = M at hw hZ
    refine lv_aload_n hx hb dX9_init_28 rfl (lv_at hl 0 rfl) ?_
    refine lv_bipush (v := 12) hx hb dX9_init_29 (by decide) ?_
    obtain ⟨hx1, hx2, hk1, hn1, hw⟩ := hw
    refine z_newa (k := 0) (a0 := zna 0 (12 : Int32).toNatClampNeg) (atype := .int) hC hZ q336 rfl (by decide) (fun _ => rfl) hx1 rfl (z_bytes hx2 (by decide)) (show cells + 1 ≤ K by omega) (show slots + (12 : Int32).toNatClampNeg ≤ N by omega) dX9_init_31 (fun b96 H hq0 hq1 hZ => ?_)
    replace hw := hw b96 hq0 hq1
    replace hZ : zS D (zu M b96 (some (.inl (0, zna 0 (12 : Int32).toNatClampNeg)))) _ _ := hZ
    refine W.cs (cells' := cells + 1) (slots' := slots + (12 : Int32).toNatClampNeg) rfl rfl ?_
    generalize zu M _ _ = M at hw hZ
    have hk : cells + 1 + (k - 1) ≤ K := by omega
    have hn : slots + (12 : Int32).toNatClampNeg + (n - (12 : Int32).toNatClampNeg) ≤ N := by omega
    generalize k - 1 = k at hk hw
    generalize n - (12 : Int32).toNatClampNeg = n at hn hw
    generalize cells + 1 = cells at hk ⊢
    generalize slots + (12 : Int32).toNatClampNeg = slots at hn ⊢
    clear hk1 hn1 hx1 hx2
    obtain ⟨fs0, hM0, hb0, hk0, hw⟩ := hw
    refine z_putF hC hZ hM0 hb0 zc8 4 (by decide) q1724 (fun _ h9 => h9) (by decide) hG.2.2.2.1 rfl rfl rfl hk0 dX9_init_33 (fun H locs hZ => ?_)
    generalize zu M _ _ = M at hw hZ
    refine lv_aload_n hx hb dX9_init_36 rfl (lv_at hl 0 rfl) ?_
    refine lv_bipush (v := 12) hx hb dX9_init_37 (by decide) ?_
    obtain ⟨hx1, hx2, hk1, hn1, hw⟩ := hw
    refine z_newa (k := 0) (a0 := zna 0 (12 : Int32).toNatClampNeg) (atype := .int) hC hZ q336 rfl (by decide) (fun _ => rfl) hx1 rfl (z_bytes hx2 (by decide)) (show cells + 1 ≤ K by omega) (show slots + (12 : Int32).toNatClampNeg ≤ N by omega) dX9_init_39 (fun b97 H hq0 hq1 hZ => ?_)
    replace hw := hw b97 hq0 hq1
    replace hZ : zS D (zu M b97 (some (.inl (0, zna 0 (12 : Int32).toNatClampNeg)))) _ _ := hZ
    refine W.cs (cells' := cells + 1) (slots' := slots + (12 : Int32).toNatClampNeg) rfl rfl ?_
    generalize zu M _ _ = M at hw hZ
    have hk : cells + 1 + (k - 1) ≤ K := by omega
    have hn : slots + (12 : Int32).toNatClampNeg + (n - (12 : Int32).toNatClampNeg) ≤ N := by omega
    generalize k - 1 = k at hk hw
    generalize n - (12 : Int32).toNatClampNeg = n at hn hw
    generalize cells + 1 = cells at hk ⊢
    generalize slots + (12 : Int32).toNatClampNeg = slots at hn ⊢
    clear hk1 hn1 hx1 hx2
    obtain ⟨fs0, hM0, hb0, hk0, hw⟩ := hw
    refine z_putF hC hZ hM0 hb0 zc8 5 (by decide) q1725 (fun _ h9 => h9) (by decide) hG.2.2.2.1 rfl rfl rfl hk0 dX9_init_41 (fun H locs hZ => ?_)
    generalize zu M _ _ = M at hw hZ
    refine lv_aload_n hx hb dX9_init_44 rfl (lv_at hl 0 rfl) ?_
    refine lv_bipush (v := 12) hx hb dX9_init_45 (by decide) ?_
    obtain ⟨hx1, hx2, hk1, hn1, hw⟩ := hw
    refine z_newa (k := 0) (a0 := zna 0 (12 : Int32).toNatClampNeg) (atype := .int) hC hZ q336 rfl (by decide) (fun _ => rfl) hx1 rfl (z_bytes hx2 (by decide)) (show cells + 1 ≤ K by omega) (show slots + (12 : Int32).toNatClampNeg ≤ N by omega) dX9_init_47 (fun b98 H hq0 hq1 hZ => ?_)
    replace hw := hw b98 hq0 hq1
    replace hZ : zS D (zu M b98 (some (.inl (0, zna 0 (12 : Int32).toNatClampNeg)))) _ _ := hZ
    refine W.cs (cells' := cells + 1) (slots' := slots + (12 : Int32).toNatClampNeg) rfl rfl ?_
    generalize zu M _ _ = M at hw hZ
    have hk : cells + 1 + (k - 1) ≤ K := by omega
    have hn : slots + (12 : Int32).toNatClampNeg + (n - (12 : Int32).toNatClampNeg) ≤ N := by omega
    generalize k - 1 = k at hk hw
    generalize n - (12 : Int32).toNatClampNeg = n at hn hw
    generalize cells + 1 = cells at hk ⊢
    generalize slots + (12 : Int32).toNatClampNeg = slots at hn ⊢
    clear hk1 hn1 hx1 hx2
    obtain ⟨fs0, hM0, hb0, hk0, hw⟩ := hw
    refine z_putF hC hZ hM0 hb0 zc8 6 (by decide) q1726 (fun _ h9 => h9) (by decide) hG.2.2.2.1 rfl rfl rfl hk0 dX9_init_49 (fun H locs hZ => ?_)
    generalize zu M _ _ = M at hw hZ
    refine lv_aload_n hx hb dX9_init_52 rfl (lv_at hl 0 rfl) ?_
    refine lv_bipush (v := 120) hx hb dX9_init_53 (by decide) ?_
    obtain ⟨hx1, hx2, hk1, hn1, hw⟩ := hw
    refine z_newa (k := 0) (a0 := zna 0 (120 : Int32).toNatClampNeg) (atype := .int) hC hZ q336 rfl (by decide) (fun _ => rfl) hx1 rfl (z_bytes hx2 (by decide)) (show cells + 1 ≤ K by omega) (show slots + (120 : Int32).toNatClampNeg ≤ N by omega) dX9_init_55 (fun b99 H hq0 hq1 hZ => ?_)
    replace hw := hw b99 hq0 hq1
    replace hZ : zS D (zu M b99 (some (.inl (0, zna 0 (120 : Int32).toNatClampNeg)))) _ _ := hZ
    refine W.cs (cells' := cells + 1) (slots' := slots + (120 : Int32).toNatClampNeg) rfl rfl ?_
    generalize zu M _ _ = M at hw hZ
    have hk : cells + 1 + (k - 1) ≤ K := by omega
    have hn : slots + (120 : Int32).toNatClampNeg + (n - (120 : Int32).toNatClampNeg) ≤ N := by omega
    generalize k - 1 = k at hk hw
    generalize n - (120 : Int32).toNatClampNeg = n at hn hw
    generalize cells + 1 = cells at hk ⊢
    generalize slots + (120 : Int32).toNatClampNeg = slots at hn ⊢
    clear hk1 hn1 hx1 hx2
    obtain ⟨fs0, hM0, hb0, hk0, hw⟩ := hw
    refine z_putF hC hZ hM0 hb0 zc8 7 (by decide) q1727 (fun _ h9 => h9) (by decide) hG.2.2.2.1 rfl rfl rfl hk0 dX9_init_57 (fun H locs hZ => ?_)
    generalize zu M _ _ = M at hw hZ
    refine lv_aload_n hx hb dX9_init_60 rfl (lv_at hl 0 rfl) ?_
    refine lv_iconst (v := 4) hx hb dX9_init_61 (by decide) ?_
    obtain ⟨hx1, hx2, hk1, hn1, hw⟩ := hw
    refine z_newa (k := 0) (a0 := zna 0 (4 : Int32).toNatClampNeg) (atype := .int) hC hZ q336 rfl (by decide) (fun _ => rfl) hx1 rfl (z_bytes hx2 (by decide)) (show cells + 1 ≤ K by omega) (show slots + (4 : Int32).toNatClampNeg ≤ N by omega) dX9_init_62 (fun b100 H hq0 hq1 hZ => ?_)
    replace hw := hw b100 hq0 hq1
    replace hZ : zS D (zu M b100 (some (.inl (0, zna 0 (4 : Int32).toNatClampNeg)))) _ _ := hZ
    refine W.cs (cells' := cells + 1) (slots' := slots + (4 : Int32).toNatClampNeg) rfl rfl ?_
    generalize zu M _ _ = M at hw hZ
    have hk : cells + 1 + (k - 1) ≤ K := by omega
    have hn : slots + (4 : Int32).toNatClampNeg + (n - (4 : Int32).toNatClampNeg) ≤ N := by omega
    generalize k - 1 = k at hk hw
    generalize n - (4 : Int32).toNatClampNeg = n at hn hw
    generalize cells + 1 = cells at hk ⊢
    generalize slots + (4 : Int32).toNatClampNeg = slots at hn ⊢
    clear hk1 hn1 hx1 hx2
    obtain ⟨fs0, hM0, hb0, hk0, hw⟩ := hw
    refine z_putF hC hZ hM0 hb0 zc8 9 (by decide) q1729 (fun _ h9 => h9) (by decide) hG.2.2.2.1 rfl rfl rfl hk0 dX9_init_64 (fun H locs hZ => ?_)
    generalize zu M _ _ = M at hw hZ
    refine lv_aload_n hx hb dX9_init_67 rfl (lv_at hl 0 rfl) ?_
    refine lv_sipush (v := 480) hx hb dX9_init_68 (by decide) ?_
    obtain ⟨hx1, hx2, hk1, hn1, hw⟩ := hw
    refine z_newa (k := 0) (a0 := zna 0 (480 : Int32).toNatClampNeg) (atype := .int) hC hZ q336 rfl (by decide) (fun _ => rfl) hx1 rfl (z_bytes hx2 (by decide)) (show cells + 1 ≤ K by omega) (show slots + (480 : Int32).toNatClampNeg ≤ N by omega) dX9_init_71 (fun b101 H hq0 hq1 hZ => ?_)
    replace hw := hw b101 hq0 hq1
    replace hZ : zS D (zu M b101 (some (.inl (0, zna 0 (480 : Int32).toNatClampNeg)))) _ _ := hZ
    refine W.cs (cells' := cells + 1) (slots' := slots + (480 : Int32).toNatClampNeg) rfl rfl ?_
    generalize zu M _ _ = M at hw hZ
    have hk : cells + 1 + (k - 1) ≤ K := by omega
    have hn : slots + (480 : Int32).toNatClampNeg + (n - (480 : Int32).toNatClampNeg) ≤ N := by omega
    generalize k - 1 = k at hk hw
    generalize n - (480 : Int32).toNatClampNeg = n at hn hw
    generalize cells + 1 = cells at hk ⊢
    generalize slots + (480 : Int32).toNatClampNeg = slots at hn ⊢
    clear hk1 hn1 hx1 hx2
    obtain ⟨fs0, hM0, hb0, hk0, hw⟩ := hw
    refine z_putF hC hZ hM0 hb0 zc8 10 (by decide) q1730 (fun _ h9 => h9) (by decide) hG.2.2.2.1 rfl rfl rfl hk0 dX9_init_73 (fun H locs hZ => ?_)
    generalize zu M _ _ = M at hw hZ
    refine lv_aload_n hx hb dX9_init_76 rfl (lv_at hl 0 rfl) ?_
    refine lv_iconst (v := 4) hx hb dX9_init_77 (by decide) ?_
    obtain ⟨hx1, hx2, hk1, hn1, hw⟩ := hw
    refine z_newa (k := 0) (a0 := zna 0 (4 : Int32).toNatClampNeg) (atype := .int) hC hZ q336 rfl (by decide) (fun _ => rfl) hx1 rfl (z_bytes hx2 (by decide)) (show cells + 1 ≤ K by omega) (show slots + (4 : Int32).toNatClampNeg ≤ N by omega) dX9_init_78 (fun b102 H hq0 hq1 hZ => ?_)
    replace hw := hw b102 hq0 hq1
    replace hZ : zS D (zu M b102 (some (.inl (0, zna 0 (4 : Int32).toNatClampNeg)))) _ _ := hZ
    refine W.cs (cells' := cells + 1) (slots' := slots + (4 : Int32).toNatClampNeg) rfl rfl ?_
    generalize zu M _ _ = M at hw hZ
    have hk : cells + 1 + (k - 1) ≤ K := by omega
    have hn : slots + (4 : Int32).toNatClampNeg + (n - (4 : Int32).toNatClampNeg) ≤ N := by omega
    generalize k - 1 = k at hk hw
    generalize n - (4 : Int32).toNatClampNeg = n at hn hw
    generalize cells + 1 = cells at hk ⊢
    generalize slots + (4 : Int32).toNatClampNeg = slots at hn ⊢
    clear hk1 hn1 hx1 hx2
    obtain ⟨fs0, hM0, hb0, hk0, hw⟩ := hw
    refine z_putF hC hZ hM0 hb0 zc8 11 (by decide) q1731 (fun _ h9 => h9) (by decide) hG.2.2.2.1 rfl rfl rfl hk0 dX9_init_80 (fun H locs hZ => ?_)
    generalize zu M _ _ = M at hw hZ
    refine lv_aload_n hx hb dX9_init_83 rfl (lv_at hl 0 rfl) ?_
    refine lv_iconst (v := 4) hx hb dX9_init_84 (by decide) ?_
    obtain ⟨hx1, hx2, hk1, hn1, hw⟩ := hw
    refine z_newa (k := 0) (a0 := zna 0 (4 : Int32).toNatClampNeg) (atype := .int) hC hZ q336 rfl (by decide) (fun _ => rfl) hx1 rfl (z_bytes hx2 (by decide)) (show cells + 1 ≤ K by omega) (show slots + (4 : Int32).toNatClampNeg ≤ N by omega) dX9_init_85 (fun b103 H hq0 hq1 hZ => ?_)
    replace hw := hw b103 hq0 hq1
    replace hZ : zS D (zu M b103 (some (.inl (0, zna 0 (4 : Int32).toNatClampNeg)))) _ _ := hZ
    refine W.cs (cells' := cells + 1) (slots' := slots + (4 : Int32).toNatClampNeg) rfl rfl ?_
    generalize zu M _ _ = M at hw hZ
    have hk : cells + 1 + (k - 1) ≤ K := by omega
    have hn : slots + (4 : Int32).toNatClampNeg + (n - (4 : Int32).toNatClampNeg) ≤ N := by omega
    generalize k - 1 = k at hk hw
    generalize n - (4 : Int32).toNatClampNeg = n at hn hw
    generalize cells + 1 = cells at hk ⊢
    generalize slots + (4 : Int32).toNatClampNeg = slots at hn ⊢
    clear hk1 hn1 hx1 hx2
    obtain ⟨fs0, hM0, hb0, hk0, hw⟩ := hw
    refine z_putF hC hZ hM0 hb0 zc8 12 (by decide) q1732 (fun _ h9 => h9) (by decide) hG.2.2.2.1 rfl rfl rfl hk0 dX9_init_87 (fun H locs hZ => ?_)
    generalize zu M _ _ = M at hw hZ
    refine lv_aload_n hx hb dX9_init_90 rfl (lv_at hl 0 rfl) ?_
    refine lv_iconst (v := 4) hx hb dX9_init_91 (by decide) ?_
    obtain ⟨hx1, hx2, hk1, hn1, hw⟩ := hw
    refine z_newa (k := 0) (a0 := zna 0 (4 : Int32).toNatClampNeg) (atype := .int) hC hZ q336 rfl (by decide) (fun _ => rfl) hx1 rfl (z_bytes hx2 (by decide)) (show cells + 1 ≤ K by omega) (show slots + (4 : Int32).toNatClampNeg ≤ N by omega) dX9_init_92 (fun b104 H hq0 hq1 hZ => ?_)
    replace hw := hw b104 hq0 hq1
    replace hZ : zS D (zu M b104 (some (.inl (0, zna 0 (4 : Int32).toNatClampNeg)))) _ _ := hZ
    refine W.cs (cells' := cells + 1) (slots' := slots + (4 : Int32).toNatClampNeg) rfl rfl ?_
    generalize zu M _ _ = M at hw hZ
    have hk : cells + 1 + (k - 1) ≤ K := by omega
    have hn : slots + (4 : Int32).toNatClampNeg + (n - (4 : Int32).toNatClampNeg) ≤ N := by omega
    generalize k - 1 = k at hk hw
    generalize n - (4 : Int32).toNatClampNeg = n at hn hw
    generalize cells + 1 = cells at hk ⊢
    generalize slots + (4 : Int32).toNatClampNeg = slots at hn ⊢
    clear hk1 hn1 hx1 hx2
    obtain ⟨fs0, hM0, hb0, hk0, hw⟩ := hw
    refine z_putF hC hZ hM0 hb0 zc8 13 (by decide) q1733 (fun _ h9 => h9) (by decide) hG.2.2.2.1 rfl rfl rfl hk0 dX9_init_94 (fun H locs hZ => ?_)
    generalize zu M _ _ = M at hw hZ
    refine lv_aload_n hx hb dX9_init_97 rfl (lv_at hl 0 rfl) ?_
    refine lv_iconst (v := 4) hx hb dX9_init_98 (by decide) ?_
    obtain ⟨hx1, hx2, hk1, hn1, hw⟩ := hw
    refine z_newa (k := 0) (a0 := zna 0 (4 : Int32).toNatClampNeg) (atype := .int) hC hZ q336 rfl (by decide) (fun _ => rfl) hx1 rfl (z_bytes hx2 (by decide)) (show cells + 1 ≤ K by omega) (show slots + (4 : Int32).toNatClampNeg ≤ N by omega) dX9_init_99 (fun b105 H hq0 hq1 hZ => ?_)
    replace hw := hw b105 hq0 hq1
    replace hZ : zS D (zu M b105 (some (.inl (0, zna 0 (4 : Int32).toNatClampNeg)))) _ _ := hZ
    refine W.cs (cells' := cells + 1) (slots' := slots + (4 : Int32).toNatClampNeg) rfl rfl ?_
    generalize zu M _ _ = M at hw hZ
    have hk : cells + 1 + (k - 1) ≤ K := by omega
    have hn : slots + (4 : Int32).toNatClampNeg + (n - (4 : Int32).toNatClampNeg) ≤ N := by omega
    generalize k - 1 = k at hk hw
    generalize n - (4 : Int32).toNatClampNeg = n at hn hw
    generalize cells + 1 = cells at hk ⊢
    generalize slots + (4 : Int32).toNatClampNeg = slots at hn ⊢
    clear hk1 hn1 hx1 hx2
    obtain ⟨fs0, hM0, hb0, hk0, hw⟩ := hw
    refine z_putF hC hZ hM0 hb0 zc8 14 (by decide) q1734 (fun _ h9 => h9) (by decide) hG.2.2.2.1 rfl rfl rfl hk0 dX9_init_101 (fun H locs hZ => ?_)
    generalize zu M _ _ = M at hw hZ
    refine lv_aload_n hx hb dX9_init_104 rfl (lv_at hl 0 rfl) ?_
    refine lv_bipush (v := 20) hx hb dX9_init_105 (by decide) ?_
    obtain ⟨hx1, hx2, hk1, hn1, hw⟩ := hw
    refine z_newa (k := 0) (a0 := zna 0 (20 : Int32).toNatClampNeg) (atype := .int) hC hZ q336 rfl (by decide) (fun _ => rfl) hx1 rfl (z_bytes hx2 (by decide)) (show cells + 1 ≤ K by omega) (show slots + (20 : Int32).toNatClampNeg ≤ N by omega) dX9_init_107 (fun b106 H hq0 hq1 hZ => ?_)
    replace hw := hw b106 hq0 hq1
    replace hZ : zS D (zu M b106 (some (.inl (0, zna 0 (20 : Int32).toNatClampNeg)))) _ _ := hZ
    refine W.cs (cells' := cells + 1) (slots' := slots + (20 : Int32).toNatClampNeg) rfl rfl ?_
    generalize zu M _ _ = M at hw hZ
    have hk : cells + 1 + (k - 1) ≤ K := by omega
    have hn : slots + (20 : Int32).toNatClampNeg + (n - (20 : Int32).toNatClampNeg) ≤ N := by omega
    generalize k - 1 = k at hk hw
    generalize n - (20 : Int32).toNatClampNeg = n at hn hw
    generalize cells + 1 = cells at hk ⊢
    generalize slots + (20 : Int32).toNatClampNeg = slots at hn ⊢
    clear hk1 hn1 hx1 hx2
    obtain ⟨fs0, hM0, hb0, hk0, hw⟩ := hw
    refine z_putF hC hZ hM0 hb0 zc8 15 (by decide) q1735 (fun _ h9 => h9) (by decide) hG.2.2.2.1 rfl rfl rfl hk0 dX9_init_109 (fun H locs hZ => ?_)
    generalize zu M _ _ = M at hw hZ
    refine lv_aload_n hx hb dX9_init_112 rfl (lv_at hl 0 rfl) ?_
    refine lv_bipush (v := 32) hx hb dX9_init_113 (by decide) ?_
    obtain ⟨hx1, hx2, hk1, hn1, hw⟩ := hw
    refine z_newa (k := 0) (a0 := zna 0 (32 : Int32).toNatClampNeg) (atype := .int) hC hZ q336 rfl (by decide) (fun _ => rfl) hx1 rfl (z_bytes hx2 (by decide)) (show cells + 1 ≤ K by omega) (show slots + (32 : Int32).toNatClampNeg ≤ N by omega) dX9_init_115 (fun b107 H hq0 hq1 hZ => ?_)
    replace hw := hw b107 hq0 hq1
    replace hZ : zS D (zu M b107 (some (.inl (0, zna 0 (32 : Int32).toNatClampNeg)))) _ _ := hZ
    refine W.cs (cells' := cells + 1) (slots' := slots + (32 : Int32).toNatClampNeg) rfl rfl ?_
    generalize zu M _ _ = M at hw hZ
    have hk : cells + 1 + (k - 1) ≤ K := by omega
    have hn : slots + (32 : Int32).toNatClampNeg + (n - (32 : Int32).toNatClampNeg) ≤ N := by omega
    generalize k - 1 = k at hk hw
    generalize n - (32 : Int32).toNatClampNeg = n at hn hw
    generalize cells + 1 = cells at hk ⊢
    generalize slots + (32 : Int32).toNatClampNeg = slots at hn ⊢
    clear hk1 hn1 hx1 hx2
    obtain ⟨fs0, hM0, hb0, hk0, hw⟩ := hw
    refine z_putF hC hZ hM0 hb0 zc8 16 (by decide) q1736 (fun _ h9 => h9) (by decide) hG.2.2.2.1 rfl rfl rfl hk0 dX9_init_117 (fun H locs hZ => ?_)
    generalize zu M _ _ = M at hw hZ
    refine lv_aload_n hx hb dX9_init_120 rfl (lv_at hl 0 rfl) ?_
    refine lv_bipush (v := 32) hx hb dX9_init_121 (by decide) ?_
    obtain ⟨hx1, hx2, hk1, hn1, hw⟩ := hw
    refine z_newa (k := 0) (a0 := zna 0 (32 : Int32).toNatClampNeg) (atype := .int) hC hZ q336 rfl (by decide) (fun _ => rfl) hx1 rfl (z_bytes hx2 (by decide)) (show cells + 1 ≤ K by omega) (show slots + (32 : Int32).toNatClampNeg ≤ N by omega) dX9_init_123 (fun b108 H hq0 hq1 hZ => ?_)
    replace hw := hw b108 hq0 hq1
    replace hZ : zS D (zu M b108 (some (.inl (0, zna 0 (32 : Int32).toNatClampNeg)))) _ _ := hZ
    refine W.cs (cells' := cells + 1) (slots' := slots + (32 : Int32).toNatClampNeg) rfl rfl ?_
    generalize zu M _ _ = M at hw hZ
    have hk : cells + 1 + (k - 1) ≤ K := by omega
    have hn : slots + (32 : Int32).toNatClampNeg + (n - (32 : Int32).toNatClampNeg) ≤ N := by omega
    generalize k - 1 = k at hk hw
    generalize n - (32 : Int32).toNatClampNeg = n at hn hw
    generalize cells + 1 = cells at hk ⊢
    generalize slots + (32 : Int32).toNatClampNeg = slots at hn ⊢
    clear hk1 hn1 hx1 hx2
    obtain ⟨fs0, hM0, hb0, hk0, hw⟩ := hw
    refine z_putF hC hZ hM0 hb0 zc8 17 (by decide) q1737 (fun _ h9 => h9) (by decide) hG.2.2.2.1 rfl rfl rfl hk0 dX9_init_125 (fun H locs hZ => ?_)
    generalize zu M _ _ = M at hw hZ
    refine lv_aload_n hx hb dX9_init_128 rfl (lv_at hl 0 rfl) ?_
    refine lv_bipush (v := 32) hx hb dX9_init_129 (by decide) ?_
    obtain ⟨hx1, hx2, hk1, hn1, hw⟩ := hw
    refine z_newa (k := 0) (a0 := zna 0 (32 : Int32).toNatClampNeg) (atype := .int) hC hZ q336 rfl (by decide) (fun _ => rfl) hx1 rfl (z_bytes hx2 (by decide)) (show cells + 1 ≤ K by omega) (show slots + (32 : Int32).toNatClampNeg ≤ N by omega) dX9_init_131 (fun b109 H hq0 hq1 hZ => ?_)
    replace hw := hw b109 hq0 hq1
    replace hZ : zS D (zu M b109 (some (.inl (0, zna 0 (32 : Int32).toNatClampNeg)))) _ _ := hZ
    refine W.cs (cells' := cells + 1) (slots' := slots + (32 : Int32).toNatClampNeg) rfl rfl ?_
    generalize zu M _ _ = M at hw hZ
    have hk : cells + 1 + (k - 1) ≤ K := by omega
    have hn : slots + (32 : Int32).toNatClampNeg + (n - (32 : Int32).toNatClampNeg) ≤ N := by omega
    generalize k - 1 = k at hk hw
    generalize n - (32 : Int32).toNatClampNeg = n at hn hw
    generalize cells + 1 = cells at hk ⊢
    generalize slots + (32 : Int32).toNatClampNeg = slots at hn ⊢
    clear hk1 hn1 hx1 hx2
    obtain ⟨fs0, hM0, hb0, hk0, hw⟩ := hw
    refine z_putF hC hZ hM0 hb0 zc8 18 (by decide) q1738 (fun _ h9 => h9) (by decide) hG.2.2.2.1 rfl rfl rfl hk0 dX9_init_133 (fun H locs hZ => ?_)
    generalize zu M _ _ = M at hw hZ
    refine lv_aload_n hx hb dX9_init_136 rfl (lv_at hl 0 rfl) ?_
    refine lv_bipush (v := 32) hx hb dX9_init_137 (by decide) ?_
    obtain ⟨hx1, hx2, hk1, hn1, hw⟩ := hw
    refine z_newa (k := 0) (a0 := zna 0 (32 : Int32).toNatClampNeg) (atype := .int) hC hZ q336 rfl (by decide) (fun _ => rfl) hx1 rfl (z_bytes hx2 (by decide)) (show cells + 1 ≤ K by omega) (show slots + (32 : Int32).toNatClampNeg ≤ N by omega) dX9_init_139 (fun b110 H hq0 hq1 hZ => ?_)
    replace hw := hw b110 hq0 hq1
    replace hZ : zS D (zu M b110 (some (.inl (0, zna 0 (32 : Int32).toNatClampNeg)))) _ _ := hZ
    refine W.cs (cells' := cells + 1) (slots' := slots + (32 : Int32).toNatClampNeg) rfl rfl ?_
    generalize zu M _ _ = M at hw hZ
    have hk : cells + 1 + (k - 1) ≤ K := by omega
    have hn : slots + (32 : Int32).toNatClampNeg + (n - (32 : Int32).toNatClampNeg) ≤ N := by omega
    generalize k - 1 = k at hk hw
    generalize n - (32 : Int32).toNatClampNeg = n at hn hw
    generalize cells + 1 = cells at hk ⊢
    generalize slots + (32 : Int32).toNatClampNeg = slots at hn ⊢
    clear hk1 hn1 hx1 hx2
    obtain ⟨fs0, hM0, hb0, hk0, hw⟩ := hw
    refine z_putF hC hZ hM0 hb0 zc8 19 (by decide) q1739 (fun _ h9 => h9) (by decide) hG.2.2.2.1 rfl rfl rfl hk0 dX9_init_141 (fun H locs hZ => ?_)
    generalize zu M _ _ = M at hw hZ
    refine lv_aload_n hx hb dX9_init_144 rfl (lv_at hl 0 rfl) ?_
    refine lv_sipush (v := 320) hx hb dX9_init_145 (by decide) ?_
    obtain ⟨hx1, hx2, hk1, hn1, hw⟩ := hw
    refine z_newa (k := 0) (a0 := zna 0 (320 : Int32).toNatClampNeg) (atype := .int) hC hZ q336 rfl (by decide) (fun _ => rfl) hx1 rfl (z_bytes hx2 (by decide)) (show cells + 1 ≤ K by omega) (show slots + (320 : Int32).toNatClampNeg ≤ N by omega) dX9_init_148 (fun b111 H hq0 hq1 hZ => ?_)
    replace hw := hw b111 hq0 hq1
    replace hZ : zS D (zu M b111 (some (.inl (0, zna 0 (320 : Int32).toNatClampNeg)))) _ _ := hZ
    refine W.cs (cells' := cells + 1) (slots' := slots + (320 : Int32).toNatClampNeg) rfl rfl ?_
    generalize zu M _ _ = M at hw hZ
    have hk : cells + 1 + (k - 1) ≤ K := by omega
    have hn : slots + (320 : Int32).toNatClampNeg + (n - (320 : Int32).toNatClampNeg) ≤ N := by omega
    generalize k - 1 = k at hk hw
    generalize n - (320 : Int32).toNatClampNeg = n at hn hw
    generalize cells + 1 = cells at hk ⊢
    generalize slots + (320 : Int32).toNatClampNeg = slots at hn ⊢
    clear hk1 hn1 hx1 hx2
    obtain ⟨fs0, hM0, hb0, hk0, hw⟩ := hw
    refine z_putF hC hZ hM0 hb0 zc8 20 (by decide) q1740 (fun _ h9 => h9) (by decide) hG.2.2.2.1 rfl rfl rfl hk0 dX9_init_150 (fun H locs hZ => ?_)
    generalize zu M _ _ = M at hw hZ
    refine lv_aload_n hx hb dX9_init_153 rfl (lv_at hl 0 rfl) ?_
    refine lv_sipush (v := 320) hx hb dX9_init_154 (by decide) ?_
    obtain ⟨hx1, hx2, hk1, hn1, hw⟩ := hw
    refine z_newa (k := 0) (a0 := zna 0 (320 : Int32).toNatClampNeg) (atype := .int) hC hZ q336 rfl (by decide) (fun _ => rfl) hx1 rfl (z_bytes hx2 (by decide)) (show cells + 1 ≤ K by omega) (show slots + (320 : Int32).toNatClampNeg ≤ N by omega) dX9_init_157 (fun b112 H hq0 hq1 hZ => ?_)
    replace hw := hw b112 hq0 hq1
    replace hZ : zS D (zu M b112 (some (.inl (0, zna 0 (320 : Int32).toNatClampNeg)))) _ _ := hZ
    refine W.cs (cells' := cells + 1) (slots' := slots + (320 : Int32).toNatClampNeg) rfl rfl ?_
    generalize zu M _ _ = M at hw hZ
    have hk : cells + 1 + (k - 1) ≤ K := by omega
    have hn : slots + (320 : Int32).toNatClampNeg + (n - (320 : Int32).toNatClampNeg) ≤ N := by omega
    generalize k - 1 = k at hk hw
    generalize n - (320 : Int32).toNatClampNeg = n at hn hw
    generalize cells + 1 = cells at hk ⊢
    generalize slots + (320 : Int32).toNatClampNeg = slots at hn ⊢
    clear hk1 hn1 hx1 hx2
    obtain ⟨fs0, hM0, hb0, hk0, hw⟩ := hw
    refine z_putF hC hZ hM0 hb0 zc8 21 (by decide) q1741 (fun _ h9 => h9) (by decide) hG.2.2.2.1 rfl rfl rfl hk0 dX9_init_159 (fun H locs hZ => ?_)
    generalize zu M _ _ = M at hw hZ
    refine lv_aload_n hx hb dX9_init_162 rfl (lv_at hl 0 rfl) ?_
    refine lv_bipush (v := 32) hx hb dX9_init_163 (by decide) ?_
    obtain ⟨hx1, hx2, hk1, hn1, hw⟩ := hw
    refine z_newa (k := 0) (a0 := zna 0 (32 : Int32).toNatClampNeg) (atype := .int) hC hZ q336 rfl (by decide) (fun _ => rfl) hx1 rfl (z_bytes hx2 (by decide)) (show cells + 1 ≤ K by omega) (show slots + (32 : Int32).toNatClampNeg ≤ N by omega) dX9_init_165 (fun b113 H hq0 hq1 hZ => ?_)
    replace hw := hw b113 hq0 hq1
    replace hZ : zS D (zu M b113 (some (.inl (0, zna 0 (32 : Int32).toNatClampNeg)))) _ _ := hZ
    refine W.cs (cells' := cells + 1) (slots' := slots + (32 : Int32).toNatClampNeg) rfl rfl ?_
    generalize zu M _ _ = M at hw hZ
    have hk : cells + 1 + (k - 1) ≤ K := by omega
    have hn : slots + (32 : Int32).toNatClampNeg + (n - (32 : Int32).toNatClampNeg) ≤ N := by omega
    generalize k - 1 = k at hk hw
    generalize n - (32 : Int32).toNatClampNeg = n at hn hw
    generalize cells + 1 = cells at hk ⊢
    generalize slots + (32 : Int32).toNatClampNeg = slots at hn ⊢
    clear hk1 hn1 hx1 hx2
    obtain ⟨fs0, hM0, hb0, hk0, hw⟩ := hw
    refine z_putF hC hZ hM0 hb0 zc8 22 (by decide) q1742 (fun _ h9 => h9) (by decide) hG.2.2.2.1 rfl rfl rfl hk0 dX9_init_167 (fun H locs hZ => ?_)
    generalize zu M _ _ = M at hw hZ
    refine lv_aload_n hx hb dX9_init_170 rfl (lv_at hl 0 rfl) ?_
    refine lv_iconst (v := 5) hx hb dX9_init_171 (by decide) ?_
    obtain ⟨hx1, hx2, hk1, hn1, hw⟩ := hw
    refine z_newa (k := 0) (a0 := zna 0 (5 : Int32).toNatClampNeg) (atype := .int) hC hZ q336 rfl (by decide) (fun _ => rfl) hx1 rfl (z_bytes hx2 (by decide)) (show cells + 1 ≤ K by omega) (show slots + (5 : Int32).toNatClampNeg ≤ N by omega) dX9_init_172 (fun b114 H hq0 hq1 hZ => ?_)
    replace hw := hw b114 hq0 hq1
    replace hZ : zS D (zu M b114 (some (.inl (0, zna 0 (5 : Int32).toNatClampNeg)))) _ _ := hZ
    refine W.cs (cells' := cells + 1) (slots' := slots + (5 : Int32).toNatClampNeg) rfl rfl ?_
    generalize zu M _ _ = M at hw hZ
    have hk : cells + 1 + (k - 1) ≤ K := by omega
    have hn : slots + (5 : Int32).toNatClampNeg + (n - (5 : Int32).toNatClampNeg) ≤ N := by omega
    generalize k - 1 = k at hk hw
    generalize n - (5 : Int32).toNatClampNeg = n at hn hw
    generalize cells + 1 = cells at hk ⊢
    generalize slots + (5 : Int32).toNatClampNeg = slots at hn ⊢
    clear hk1 hn1 hx1 hx2
    obtain ⟨fs0, hM0, hb0, hk0, hw⟩ := hw
    refine z_putF hC hZ hM0 hb0 zc8 29 (by decide) q1749 (fun _ h9 => h9) (by decide) hG.2.2.2.1 rfl rfl rfl hk0 dX9_init_174 (fun H locs hZ => ?_)
    generalize zu M _ _ = M at hw hZ
    refine lv_aload_n hx hb dX9_init_177 rfl (lv_at hl 0 rfl) ?_
    refine lv_bipush (v := 8) hx hb dX9_init_178 (by decide) ?_
    obtain ⟨hx1, hx2, hk1, hn1, hw⟩ := hw
    refine z_newa (k := 0) (a0 := zna 0 (8 : Int32).toNatClampNeg) (atype := .int) hC hZ q336 rfl (by decide) (fun _ => rfl) hx1 rfl (z_bytes hx2 (by decide)) (show cells + 1 ≤ K by omega) (show slots + (8 : Int32).toNatClampNeg ≤ N by omega) dX9_init_180 (fun b115 H hq0 hq1 hZ => ?_)
    replace hw := hw b115 hq0 hq1
    replace hZ : zS D (zu M b115 (some (.inl (0, zna 0 (8 : Int32).toNatClampNeg)))) _ _ := hZ
    refine W.cs (cells' := cells + 1) (slots' := slots + (8 : Int32).toNatClampNeg) rfl rfl ?_
    generalize zu M _ _ = M at hw hZ
    have hk : cells + 1 + (k - 1) ≤ K := by omega
    have hn : slots + (8 : Int32).toNatClampNeg + (n - (8 : Int32).toNatClampNeg) ≤ N := by omega
    generalize k - 1 = k at hk hw
    generalize n - (8 : Int32).toNatClampNeg = n at hn hw
    generalize cells + 1 = cells at hk ⊢
    generalize slots + (8 : Int32).toNatClampNeg = slots at hn ⊢
    clear hk1 hn1 hx1 hx2
    obtain ⟨fs0, hM0, hb0, hk0, hw⟩ := hw
    refine z_putF hC hZ hM0 hb0 zc8 30 (by decide) q1750 (fun _ h9 => h9) (by decide) hG.2.2.2.1 rfl rfl rfl hk0 dX9_init_182 (fun H locs hZ => ?_)
    generalize zu M _ _ = M at hw hZ
    refine lv_aload_n hx hb dX9_init_185 rfl (lv_at hl 0 rfl) ?_
    refine lv_bipush (v := 8) hx hb dX9_init_186 (by decide) ?_
    obtain ⟨hx1, hx2, hk1, hn1, hw⟩ := hw
    refine z_newa (k := 0) (a0 := zna 0 (8 : Int32).toNatClampNeg) (atype := .int) hC hZ q336 rfl (by decide) (fun _ => rfl) hx1 rfl (z_bytes hx2 (by decide)) (show cells + 1 ≤ K by omega) (show slots + (8 : Int32).toNatClampNeg ≤ N by omega) dX9_init_188 (fun b116 H hq0 hq1 hZ => ?_)
    replace hw := hw b116 hq0 hq1
    replace hZ : zS D (zu M b116 (some (.inl (0, zna 0 (8 : Int32).toNatClampNeg)))) _ _ := hZ
    refine W.cs (cells' := cells + 1) (slots' := slots + (8 : Int32).toNatClampNeg) rfl rfl ?_
    generalize zu M _ _ = M at hw hZ
    have hk : cells + 1 + (k - 1) ≤ K := by omega
    have hn : slots + (8 : Int32).toNatClampNeg + (n - (8 : Int32).toNatClampNeg) ≤ N := by omega
    generalize k - 1 = k at hk hw
    generalize n - (8 : Int32).toNatClampNeg = n at hn hw
    generalize cells + 1 = cells at hk ⊢
    generalize slots + (8 : Int32).toNatClampNeg = slots at hn ⊢
    clear hk1 hn1 hx1 hx2
    obtain ⟨fs0, hM0, hb0, hk0, hw⟩ := hw
    refine z_putF hC hZ hM0 hb0 zc8 31 (by decide) q1751 (fun _ h9 => h9) (by decide) hG.2.2.2.1 rfl rfl rfl hk0 dX9_init_190 (fun H locs hZ => ?_)
    generalize zu M _ _ = M at hw hZ
    refine lv_aload_n hx hb dX9_init_193 rfl (lv_at hl 0 rfl) ?_
    refine lv_bipush (v := 8) hx hb dX9_init_194 (by decide) ?_
    obtain ⟨hx1, hx2, hk1, hn1, hw⟩ := hw
    refine z_newa (k := 0) (a0 := zna 0 (8 : Int32).toNatClampNeg) (atype := .int) hC hZ q336 rfl (by decide) (fun _ => rfl) hx1 rfl (z_bytes hx2 (by decide)) (show cells + 1 ≤ K by omega) (show slots + (8 : Int32).toNatClampNeg ≤ N by omega) dX9_init_196 (fun b117 H hq0 hq1 hZ => ?_)
    replace hw := hw b117 hq0 hq1
    replace hZ : zS D (zu M b117 (some (.inl (0, zna 0 (8 : Int32).toNatClampNeg)))) _ _ := hZ
    refine W.cs (cells' := cells + 1) (slots' := slots + (8 : Int32).toNatClampNeg) rfl rfl ?_
    generalize zu M _ _ = M at hw hZ
    have hk : cells + 1 + (k - 1) ≤ K := by omega
    have hn : slots + (8 : Int32).toNatClampNeg + (n - (8 : Int32).toNatClampNeg) ≤ N := by omega
    generalize k - 1 = k at hk hw
    generalize n - (8 : Int32).toNatClampNeg = n at hn hw
    generalize cells + 1 = cells at hk ⊢
    generalize slots + (8 : Int32).toNatClampNeg = slots at hn ⊢
    clear hk1 hn1 hx1 hx2
    obtain ⟨fs0, hM0, hb0, hk0, hw⟩ := hw
    refine z_putF hC hZ hM0 hb0 zc8 32 (by decide) q1752 (fun _ h9 => h9) (by decide) hG.2.2.2.1 rfl rfl rfl hk0 dX9_init_198 (fun H locs hZ => ?_)
    generalize zu M _ _ = M at hw hZ
    refine lv_aload_n hx hb dX9_init_201 rfl (lv_at hl 0 rfl) ?_
    refine lv_bipush (v := 8) hx hb dX9_init_202 (by decide) ?_
    obtain ⟨hx1, hx2, hk1, hn1, hw⟩ := hw
    refine z_newa (k := 0) (a0 := zna 0 (8 : Int32).toNatClampNeg) (atype := .int) hC hZ q336 rfl (by decide) (fun _ => rfl) hx1 rfl (z_bytes hx2 (by decide)) (show cells + 1 ≤ K by omega) (show slots + (8 : Int32).toNatClampNeg ≤ N by omega) dX9_init_204 (fun b118 H hq0 hq1 hZ => ?_)
    replace hw := hw b118 hq0 hq1
    replace hZ : zS D (zu M b118 (some (.inl (0, zna 0 (8 : Int32).toNatClampNeg)))) _ _ := hZ
    refine W.cs (cells' := cells + 1) (slots' := slots + (8 : Int32).toNatClampNeg) rfl rfl ?_
    generalize zu M _ _ = M at hw hZ
    have hk : cells + 1 + (k - 1) ≤ K := by omega
    have hn : slots + (8 : Int32).toNatClampNeg + (n - (8 : Int32).toNatClampNeg) ≤ N := by omega
    generalize k - 1 = k at hk hw
    generalize n - (8 : Int32).toNatClampNeg = n at hn hw
    generalize cells + 1 = cells at hk ⊢
    generalize slots + (8 : Int32).toNatClampNeg = slots at hn ⊢
    clear hk1 hn1 hx1 hx2
    obtain ⟨fs0, hM0, hb0, hk0, hw⟩ := hw
    refine z_putF hC hZ hM0 hb0 zc8 33 (by decide) q1753 (fun _ h9 => h9) (by decide) hG.2.2.2.1 rfl rfl rfl hk0 dX9_init_206 (fun H locs hZ => ?_)
    generalize zu M _ _ = M at hw hZ
    refine lv_aload_n hx hb dX9_init_209 rfl (lv_at hl 0 rfl) ?_
    refine lv_bipush (v := 80) hx hb dX9_init_210 (by decide) ?_
    obtain ⟨hx1, hx2, hk1, hn1, hw⟩ := hw
    refine z_newa (k := 0) (a0 := zna 0 (80 : Int32).toNatClampNeg) (atype := .int) hC hZ q336 rfl (by decide) (fun _ => rfl) hx1 rfl (z_bytes hx2 (by decide)) (show cells + 1 ≤ K by omega) (show slots + (80 : Int32).toNatClampNeg ≤ N by omega) dX9_init_212 (fun b119 H hq0 hq1 hZ => ?_)
    replace hw := hw b119 hq0 hq1
    replace hZ : zS D (zu M b119 (some (.inl (0, zna 0 (80 : Int32).toNatClampNeg)))) _ _ := hZ
    refine W.cs (cells' := cells + 1) (slots' := slots + (80 : Int32).toNatClampNeg) rfl rfl ?_
    generalize zu M _ _ = M at hw hZ
    have hk : cells + 1 + (k - 1) ≤ K := by omega
    have hn : slots + (80 : Int32).toNatClampNeg + (n - (80 : Int32).toNatClampNeg) ≤ N := by omega
    generalize k - 1 = k at hk hw
    generalize n - (80 : Int32).toNatClampNeg = n at hn hw
    generalize cells + 1 = cells at hk ⊢
    generalize slots + (80 : Int32).toNatClampNeg = slots at hn ⊢
    clear hk1 hn1 hx1 hx2
    obtain ⟨fs0, hM0, hb0, hk0, hw⟩ := hw
    refine z_putF hC hZ hM0 hb0 zc8 34 (by decide) q1754 (fun _ h9 => h9) (by decide) hG.2.2.2.1 rfl rfl rfl hk0 dX9_init_214 (fun H locs hZ => ?_)
    generalize zu M _ _ = M at hw hZ
    refine lv_aload_n hx hb dX9_init_217 rfl (lv_at hl 0 rfl) ?_
    refine lv_bipush (v := 80) hx hb dX9_init_218 (by decide) ?_
    obtain ⟨hx1, hx2, hk1, hn1, hw⟩ := hw
    refine z_newa (k := 0) (a0 := zna 0 (80 : Int32).toNatClampNeg) (atype := .int) hC hZ q336 rfl (by decide) (fun _ => rfl) hx1 rfl (z_bytes hx2 (by decide)) (show cells + 1 ≤ K by omega) (show slots + (80 : Int32).toNatClampNeg ≤ N by omega) dX9_init_220 (fun b120 H hq0 hq1 hZ => ?_)
    replace hw := hw b120 hq0 hq1
    replace hZ : zS D (zu M b120 (some (.inl (0, zna 0 (80 : Int32).toNatClampNeg)))) _ _ := hZ
    refine W.cs (cells' := cells + 1) (slots' := slots + (80 : Int32).toNatClampNeg) rfl rfl ?_
    generalize zu M _ _ = M at hw hZ
    have hk : cells + 1 + (k - 1) ≤ K := by omega
    have hn : slots + (80 : Int32).toNatClampNeg + (n - (80 : Int32).toNatClampNeg) ≤ N := by omega
    generalize k - 1 = k at hk hw
    generalize n - (80 : Int32).toNatClampNeg = n at hn hw
    generalize cells + 1 = cells at hk ⊢
    generalize slots + (80 : Int32).toNatClampNeg = slots at hn ⊢
    clear hk1 hn1 hx1 hx2
    obtain ⟨fs0, hM0, hb0, hk0, hw⟩ := hw
    refine z_putF hC hZ hM0 hb0 zc8 35 (by decide) q1755 (fun _ h9 => h9) (by decide) hG.2.2.2.1 rfl rfl rfl hk0 dX9_init_222 (fun H locs hZ => ?_)
    generalize zu M _ _ = M at hw hZ
    refine lv_aload_n hx hb dX9_init_225 rfl (lv_at hl 0 rfl) ?_
    refine lv_bipush (v := 8) hx hb dX9_init_226 (by decide) ?_
    obtain ⟨hx1, hx2, hk1, hn1, hw⟩ := hw
    refine z_newa (k := 0) (a0 := zna 0 (8 : Int32).toNatClampNeg) (atype := .int) hC hZ q336 rfl (by decide) (fun _ => rfl) hx1 rfl (z_bytes hx2 (by decide)) (show cells + 1 ≤ K by omega) (show slots + (8 : Int32).toNatClampNeg ≤ N by omega) dX9_init_228 (fun b121 H hq0 hq1 hZ => ?_)
    replace hw := hw b121 hq0 hq1
    replace hZ : zS D (zu M b121 (some (.inl (0, zna 0 (8 : Int32).toNatClampNeg)))) _ _ := hZ
    refine W.cs (cells' := cells + 1) (slots' := slots + (8 : Int32).toNatClampNeg) rfl rfl ?_
    generalize zu M _ _ = M at hw hZ
    have hk : cells + 1 + (k - 1) ≤ K := by omega
    have hn : slots + (8 : Int32).toNatClampNeg + (n - (8 : Int32).toNatClampNeg) ≤ N := by omega
    generalize k - 1 = k at hk hw
    generalize n - (8 : Int32).toNatClampNeg = n at hn hw
    generalize cells + 1 = cells at hk ⊢
    generalize slots + (8 : Int32).toNatClampNeg = slots at hn ⊢
    clear hk1 hn1 hx1 hx2
    obtain ⟨fs0, hM0, hb0, hk0, hw⟩ := hw
    refine z_putF hC hZ hM0 hb0 zc8 36 (by decide) q1756 (fun _ h9 => h9) (by decide) hG.2.2.2.1 rfl rfl rfl hk0 dX9_init_230 (fun H locs hZ => ?_)
    generalize zu M _ _ = M at hw hZ
    refine lv_aload_n hx hb dX9_init_233 rfl (lv_at hl 0 rfl) ?_
    refine lv_iconst (v := 5) hx hb dX9_init_234 (by decide) ?_
    obtain ⟨hx1, hx2, hk1, hn1, hw⟩ := hw
    refine z_newa (k := 0) (a0 := zna 0 (5 : Int32).toNatClampNeg) (atype := .int) hC hZ q336 rfl (by decide) (fun _ => rfl) hx1 rfl (z_bytes hx2 (by decide)) (show cells + 1 ≤ K by omega) (show slots + (5 : Int32).toNatClampNeg ≤ N by omega) dX9_init_235 (fun b122 H hq0 hq1 hZ => ?_)
    replace hw := hw b122 hq0 hq1
    replace hZ : zS D (zu M b122 (some (.inl (0, zna 0 (5 : Int32).toNatClampNeg)))) _ _ := hZ
    refine W.cs (cells' := cells + 1) (slots' := slots + (5 : Int32).toNatClampNeg) rfl rfl ?_
    generalize zu M _ _ = M at hw hZ
    have hk : cells + 1 + (k - 1) ≤ K := by omega
    have hn : slots + (5 : Int32).toNatClampNeg + (n - (5 : Int32).toNatClampNeg) ≤ N := by omega
    generalize k - 1 = k at hk hw
    generalize n - (5 : Int32).toNatClampNeg = n at hn hw
    generalize cells + 1 = cells at hk ⊢
    generalize slots + (5 : Int32).toNatClampNeg = slots at hn ⊢
    clear hk1 hn1 hx1 hx2
    obtain ⟨fs0, hM0, hb0, hk0, hw⟩ := hw
    refine z_putF hC hZ hM0 hb0 zc8 41 (by decide) q1761 (fun _ h9 => h9) (by decide) hG.2.2.2.1 rfl rfl rfl hk0 dX9_init_237 (fun H locs hZ => ?_)
    generalize zu M _ _ = M at hw hZ
    refine lv_aload_n hx hb dX9_init_240 rfl (lv_at hl 0 rfl) ?_
    refine lv_iconst (v := 5) hx hb dX9_init_241 (by decide) ?_
    obtain ⟨hx1, hx2, hk1, hn1, hw⟩ := hw
    refine z_newa (k := 0) (a0 := zna 0 (5 : Int32).toNatClampNeg) (atype := .int) hC hZ q336 rfl (by decide) (fun _ => rfl) hx1 rfl (z_bytes hx2 (by decide)) (show cells + 1 ≤ K by omega) (show slots + (5 : Int32).toNatClampNeg ≤ N by omega) dX9_init_242 (fun b123 H hq0 hq1 hZ => ?_)
    replace hw := hw b123 hq0 hq1
    replace hZ : zS D (zu M b123 (some (.inl (0, zna 0 (5 : Int32).toNatClampNeg)))) _ _ := hZ
    refine W.cs (cells' := cells + 1) (slots' := slots + (5 : Int32).toNatClampNeg) rfl rfl ?_
    generalize zu M _ _ = M at hw hZ
    have hk : cells + 1 + (k - 1) ≤ K := by omega
    have hn : slots + (5 : Int32).toNatClampNeg + (n - (5 : Int32).toNatClampNeg) ≤ N := by omega
    generalize k - 1 = k at hk hw
    generalize n - (5 : Int32).toNatClampNeg = n at hn hw
    generalize cells + 1 = cells at hk ⊢
    generalize slots + (5 : Int32).toNatClampNeg = slots at hn ⊢
    clear hk1 hn1 hx1 hx2
    obtain ⟨fs0, hM0, hb0, hk0, hw⟩ := hw
    refine z_putF hC hZ hM0 hb0 zc8 42 (by decide) q1762 (fun _ h9 => h9) (by decide) hG.2.2.2.1 rfl rfl rfl hk0 dX9_init_244 (fun H locs hZ => ?_)
    generalize zu M _ _ = M at hw hZ
    refine lv_aload_n hx hb dX9_init_247 rfl (lv_at hl 0 rfl) ?_
    refine lv_iconst (v := 5) hx hb dX9_init_248 (by decide) ?_
    obtain ⟨hx1, hx2, hk1, hn1, hw⟩ := hw
    refine z_newa (k := 0) (a0 := zna 0 (5 : Int32).toNatClampNeg) (atype := .int) hC hZ q336 rfl (by decide) (fun _ => rfl) hx1 rfl (z_bytes hx2 (by decide)) (show cells + 1 ≤ K by omega) (show slots + (5 : Int32).toNatClampNeg ≤ N by omega) dX9_init_249 (fun b124 H hq0 hq1 hZ => ?_)
    replace hw := hw b124 hq0 hq1
    replace hZ : zS D (zu M b124 (some (.inl (0, zna 0 (5 : Int32).toNatClampNeg)))) _ _ := hZ
    refine W.cs (cells' := cells + 1) (slots' := slots + (5 : Int32).toNatClampNeg) rfl rfl ?_
    generalize zu M _ _ = M at hw hZ
    have hk : cells + 1 + (k - 1) ≤ K := by omega
    have hn : slots + (5 : Int32).toNatClampNeg + (n - (5 : Int32).toNatClampNeg) ≤ N := by omega
    generalize k - 1 = k at hk hw
    generalize n - (5 : Int32).toNatClampNeg = n at hn hw
    generalize cells + 1 = cells at hk ⊢
    generalize slots + (5 : Int32).toNatClampNeg = slots at hn ⊢
    clear hk1 hn1 hx1 hx2
    obtain ⟨fs0, hM0, hb0, hk0, hw⟩ := hw
    refine z_putF hC hZ hM0 hb0 zc8 43 (by decide) q1763 (fun _ h9 => h9) (by decide) hG.2.2.2.1 rfl rfl rfl hk0 dX9_init_251 (fun H locs hZ => ?_)
    generalize zu M _ _ = M at hw hZ
    refine lv_aload_n hx hb dX9_init_254 rfl (lv_at hl 0 rfl) ?_
    refine lv_bipush (v := 30) hx hb dX9_init_255 (by decide) ?_
    obtain ⟨hx1, hx2, hk1, hn1, hw⟩ := hw
    refine z_newa (k := 0) (a0 := zna 0 (30 : Int32).toNatClampNeg) (atype := .int) hC hZ q336 rfl (by decide) (fun _ => rfl) hx1 rfl (z_bytes hx2 (by decide)) (show cells + 1 ≤ K by omega) (show slots + (30 : Int32).toNatClampNeg ≤ N by omega) dX9_init_257 (fun b125 H hq0 hq1 hZ => ?_)
    replace hw := hw b125 hq0 hq1
    replace hZ : zS D (zu M b125 (some (.inl (0, zna 0 (30 : Int32).toNatClampNeg)))) _ _ := hZ
    refine W.cs (cells' := cells + 1) (slots' := slots + (30 : Int32).toNatClampNeg) rfl rfl ?_
    generalize zu M _ _ = M at hw hZ
    have hk : cells + 1 + (k - 1) ≤ K := by omega
    have hn : slots + (30 : Int32).toNatClampNeg + (n - (30 : Int32).toNatClampNeg) ≤ N := by omega
    generalize k - 1 = k at hk hw
    generalize n - (30 : Int32).toNatClampNeg = n at hn hw
    generalize cells + 1 = cells at hk ⊢
    generalize slots + (30 : Int32).toNatClampNeg = slots at hn ⊢
    clear hk1 hn1 hx1 hx2
    obtain ⟨fs0, hM0, hb0, hk0, hw⟩ := hw
    refine z_putF hC hZ hM0 hb0 zc8 44 (by decide) q1764 (fun _ h9 => h9) (by decide) hG.2.2.2.1 rfl rfl rfl hk0 dX9_init_259 (fun H locs hZ => ?_)
    generalize zu M _ _ = M at hw hZ
    refine lv_aload_n hx hb dX9_init_262 rfl (lv_at hl 0 rfl) ?_
    refine lv_sipush (v := 240) hx hb dX9_init_263 (by decide) ?_
    obtain ⟨hx1, hx2, hk1, hn1, hw⟩ := hw
    refine z_newa (k := 0) (a0 := zna 0 (240 : Int32).toNatClampNeg) (atype := .int) hC hZ q336 rfl (by decide) (fun _ => rfl) hx1 rfl (z_bytes hx2 (by decide)) (show cells + 1 ≤ K by omega) (show slots + (240 : Int32).toNatClampNeg ≤ N by omega) dX9_init_266 (fun b126 H hq0 hq1 hZ => ?_)
    replace hw := hw b126 hq0 hq1
    replace hZ : zS D (zu M b126 (some (.inl (0, zna 0 (240 : Int32).toNatClampNeg)))) _ _ := hZ
    refine W.cs (cells' := cells + 1) (slots' := slots + (240 : Int32).toNatClampNeg) rfl rfl ?_
    generalize zu M _ _ = M at hw hZ
    have hk : cells + 1 + (k - 1) ≤ K := by omega
    have hn : slots + (240 : Int32).toNatClampNeg + (n - (240 : Int32).toNatClampNeg) ≤ N := by omega
    generalize k - 1 = k at hk hw
    generalize n - (240 : Int32).toNatClampNeg = n at hn hw
    generalize cells + 1 = cells at hk ⊢
    generalize slots + (240 : Int32).toNatClampNeg = slots at hn ⊢
    clear hk1 hn1 hx1 hx2
    obtain ⟨fs0, hM0, hb0, hk0, hw⟩ := hw
    refine z_putF hC hZ hM0 hb0 zc8 45 (by decide) q1765 (fun _ h9 => h9) (by decide) hG.2.2.2.1 rfl rfl rfl hk0 dX9_init_268 (fun H locs hZ => ?_)
    generalize zu M _ _ = M at hw hZ
    refine lv_aload_n hx hb dX9_init_271 rfl (lv_at hl 0 rfl) ?_
    refine lv_sipush (v := 600) hx hb dX9_init_272 (by decide) ?_
    obtain ⟨hx1, hx2, hk1, hn1, hw⟩ := hw
    refine z_newa (k := 0) (a0 := zna 0 (600 : Int32).toNatClampNeg) (atype := .int) hC hZ q336 rfl (by decide) (fun _ => rfl) hx1 rfl (z_bytes hx2 (by decide)) (show cells + 1 ≤ K by omega) (show slots + (600 : Int32).toNatClampNeg ≤ N by omega) dX9_init_275 (fun b127 H hq0 hq1 hZ => ?_)
    replace hw := hw b127 hq0 hq1
    replace hZ : zS D (zu M b127 (some (.inl (0, zna 0 (600 : Int32).toNatClampNeg)))) _ _ := hZ
    refine W.cs (cells' := cells + 1) (slots' := slots + (600 : Int32).toNatClampNeg) rfl rfl ?_
    generalize zu M _ _ = M at hw hZ
    have hk : cells + 1 + (k - 1) ≤ K := by omega
    have hn : slots + (600 : Int32).toNatClampNeg + (n - (600 : Int32).toNatClampNeg) ≤ N := by omega
    generalize k - 1 = k at hk hw
    generalize n - (600 : Int32).toNatClampNeg = n at hn hw
    generalize cells + 1 = cells at hk ⊢
    generalize slots + (600 : Int32).toNatClampNeg = slots at hn ⊢
    clear hk1 hn1 hx1 hx2
    obtain ⟨fs0, hM0, hb0, hk0, hw⟩ := hw
    refine z_putF hC hZ hM0 hb0 zc8 47 (by decide) q1767 (fun _ h9 => h9) (by decide) hG.2.2.2.1 rfl rfl rfl hk0 dX9_init_277 (fun H locs hZ => ?_)
    generalize zu M _ _ = M at hw hZ
    refine lv_aload_n hx hb dX9_init_280 rfl (lv_at hl 0 rfl) ?_
    refine lv_iconst (v := 3) hx hb dX9_init_281 (by decide) ?_
    obtain ⟨hx1, hx2, hk1, hn1, hw⟩ := hw
    refine z_newa (k := 0) (a0 := zna 0 (3 : Int32).toNatClampNeg) (atype := .int) hC hZ q336 rfl (by decide) (fun _ => rfl) hx1 rfl (z_bytes hx2 (by decide)) (show cells + 1 ≤ K by omega) (show slots + (3 : Int32).toNatClampNeg ≤ N by omega) dX9_init_282 (fun b128 H hq0 hq1 hZ => ?_)
    replace hw := hw b128 hq0 hq1
    replace hZ : zS D (zu M b128 (some (.inl (0, zna 0 (3 : Int32).toNatClampNeg)))) _ _ := hZ
    refine W.cs (cells' := cells + 1) (slots' := slots + (3 : Int32).toNatClampNeg) rfl rfl ?_
    generalize zu M _ _ = M at hw hZ
    have hk : cells + 1 + (k - 1) ≤ K := by omega
    have hn : slots + (3 : Int32).toNatClampNeg + (n - (3 : Int32).toNatClampNeg) ≤ N := by omega
    generalize k - 1 = k at hk hw
    generalize n - (3 : Int32).toNatClampNeg = n at hn hw
    generalize cells + 1 = cells at hk ⊢
    generalize slots + (3 : Int32).toNatClampNeg = slots at hn ⊢
    clear hk1 hn1 hx1 hx2
    obtain ⟨fs0, hM0, hb0, hk0, hw⟩ := hw
    refine z_putF hC hZ hM0 hb0 zc8 51 (by decide) q1771 (fun _ h9 => h9) (by decide) hG.2.2.2.1 rfl rfl rfl hk0 dX9_init_284 (fun H locs hZ => ?_)
    generalize zu M _ _ = M at hw hZ
    refine lv_aload_n hx hb dX9_init_287 rfl (lv_at hl 0 rfl) ?_
    refine lv_iconst (v := 3) hx hb dX9_init_288 (by decide) ?_
    obtain ⟨hx1, hx2, hk1, hn1, hw⟩ := hw
    refine z_newa (k := 0) (a0 := zna 0 (3 : Int32).toNatClampNeg) (atype := .int) hC hZ q336 rfl (by decide) (fun _ => rfl) hx1 rfl (z_bytes hx2 (by decide)) (show cells + 1 ≤ K by omega) (show slots + (3 : Int32).toNatClampNeg ≤ N by omega) dX9_init_289 (fun b129 H hq0 hq1 hZ => ?_)
    replace hw := hw b129 hq0 hq1
    replace hZ : zS D (zu M b129 (some (.inl (0, zna 0 (3 : Int32).toNatClampNeg)))) _ _ := hZ
    refine W.cs (cells' := cells + 1) (slots' := slots + (3 : Int32).toNatClampNeg) rfl rfl ?_
    generalize zu M _ _ = M at hw hZ
    have hk : cells + 1 + (k - 1) ≤ K := by omega
    have hn : slots + (3 : Int32).toNatClampNeg + (n - (3 : Int32).toNatClampNeg) ≤ N := by omega
    generalize k - 1 = k at hk hw
    generalize n - (3 : Int32).toNatClampNeg = n at hn hw
    generalize cells + 1 = cells at hk ⊢
    generalize slots + (3 : Int32).toNatClampNeg = slots at hn ⊢
    clear hk1 hn1 hx1 hx2
    obtain ⟨fs0, hM0, hb0, hk0, hw⟩ := hw
    refine z_putF hC hZ hM0 hb0 zc8 52 (by decide) q1772 (fun _ h9 => h9) (by decide) hG.2.2.2.1 rfl rfl rfl hk0 dX9_init_291 (fun H locs hZ => ?_)
    generalize zu M _ _ = M at hw hZ
    refine lv_aload_n hx hb dX9_init_294 rfl (lv_at hl 0 rfl) ?_
    refine lv_bipush (v := 90) hx hb dX9_init_295 (by decide) ?_
    obtain ⟨hx1, hx2, hk1, hn1, hw⟩ := hw
    refine z_newa (k := 3) (a0 := zna 3 (90 : Int32).toNatClampNeg) (atype := .float) hC hZ q1638 rfl (by decide) (fun _ => rfl) hx1 rfl (z_bytes hx2 (by decide)) (show cells + 1 ≤ K by omega) (show slots + (90 : Int32).toNatClampNeg ≤ N by omega) dX9_init_297 (fun b130 H hq0 hq1 hZ => ?_)
    replace hw := hw b130 hq0 hq1
    replace hZ : zS D (zu M b130 (some (.inl (3, zna 3 (90 : Int32).toNatClampNeg)))) _ _ := hZ
    refine W.cs (cells' := cells + 1) (slots' := slots + (90 : Int32).toNatClampNeg) rfl rfl ?_
    generalize zu M _ _ = M at hw hZ
    have hk : cells + 1 + (k - 1) ≤ K := by omega
    have hn : slots + (90 : Int32).toNatClampNeg + (n - (90 : Int32).toNatClampNeg) ≤ N := by omega
    generalize k - 1 = k at hk hw
    generalize n - (90 : Int32).toNatClampNeg = n at hn hw
    generalize cells + 1 = cells at hk ⊢
    generalize slots + (90 : Int32).toNatClampNeg = slots at hn ⊢
    clear hk1 hn1 hx1 hx2
    obtain ⟨fs0, hM0, hb0, hk0, hw⟩ := hw
    refine z_putF hC hZ hM0 hb0 zc8 53 (by decide) q1773 (fun _ h9 => h9) (by decide) hG.2.2.2.1 rfl rfl rfl hk0 dX9_init_299 (fun H locs hZ => ?_)
    generalize zu M _ _ = M at hw hZ
    refine lv_aload_n hx hb dX9_init_302 rfl (lv_at hl 0 rfl) ?_
    refine lv_bipush (v := 90) hx hb dX9_init_303 (by decide) ?_
    obtain ⟨hx1, hx2, hk1, hn1, hw⟩ := hw
    refine z_newa (k := 4) (a0 := zna 4 (90 : Int32).toNatClampNeg) (atype := .double) hC hZ q1639 rfl (by decide) (fun _ => rfl) hx1 rfl (z_bytes hx2 (by decide)) (show cells + 1 ≤ K by omega) (show slots + (90 : Int32).toNatClampNeg ≤ N by omega) dX9_init_305 (fun b131 H hq0 hq1 hZ => ?_)
    replace hw := hw b131 hq0 hq1
    replace hZ : zS D (zu M b131 (some (.inl (4, zna 4 (90 : Int32).toNatClampNeg)))) _ _ := hZ
    refine W.cs (cells' := cells + 1) (slots' := slots + (90 : Int32).toNatClampNeg) rfl rfl ?_
    generalize zu M _ _ = M at hw hZ
    have hk : cells + 1 + (k - 1) ≤ K := by omega
    have hn : slots + (90 : Int32).toNatClampNeg + (n - (90 : Int32).toNatClampNeg) ≤ N := by omega
    generalize k - 1 = k at hk hw
    generalize n - (90 : Int32).toNatClampNeg = n at hn hw
    generalize cells + 1 = cells at hk ⊢
    generalize slots + (90 : Int32).toNatClampNeg = slots at hn ⊢
    clear hk1 hn1 hx1 hx2
    obtain ⟨fs0, hM0, hb0, hk0, hw⟩ := hw
    refine z_putF hC hZ hM0 hb0 zc8 54 (by decide) q1774 (fun _ h9 => h9) (by decide) hG.2.2.2.1 rfl rfl rfl hk0 dX9_init_307 (fun H locs hZ => ?_)
    generalize zu M _ _ = M at hw hZ
    refine lv_aload_n hx hb dX9_init_310 rfl (lv_at hl 0 rfl) ?_
    refine lv_bipush (v := 90) hx hb dX9_init_311 (by decide) ?_
    obtain ⟨hx1, hx2, hk1, hn1, hw⟩ := hw
    refine z_newa (k := 2) (a0 := zna 2 (90 : Int32).toNatClampNeg) (atype := .long) hC hZ q1640 rfl (by decide) (fun _ => rfl) hx1 rfl (z_bytes hx2 (by decide)) (show cells + 1 ≤ K by omega) (show slots + (90 : Int32).toNatClampNeg ≤ N by omega) dX9_init_313 (fun b132 H hq0 hq1 hZ => ?_)
    replace hw := hw b132 hq0 hq1
    replace hZ : zS D (zu M b132 (some (.inl (2, zna 2 (90 : Int32).toNatClampNeg)))) _ _ := hZ
    refine W.cs (cells' := cells + 1) (slots' := slots + (90 : Int32).toNatClampNeg) rfl rfl ?_
    generalize zu M _ _ = M at hw hZ
    have hk : cells + 1 + (k - 1) ≤ K := by omega
    have hn : slots + (90 : Int32).toNatClampNeg + (n - (90 : Int32).toNatClampNeg) ≤ N := by omega
    generalize k - 1 = k at hk hw
    generalize n - (90 : Int32).toNatClampNeg = n at hn hw
    generalize cells + 1 = cells at hk ⊢
    generalize slots + (90 : Int32).toNatClampNeg = slots at hn ⊢
    clear hk1 hn1 hx1 hx2
    obtain ⟨fs0, hM0, hb0, hk0, hw⟩ := hw
    refine z_putF hC hZ hM0 hb0 zc8 55 (by decide) q1775 (fun _ h9 => h9) (by decide) hG.2.2.2.1 rfl rfl rfl hk0 dX9_init_315 (fun H locs hZ => ?_)
    generalize zu M _ _ = M at hw hZ
    refine lv_iconst (v := 0) hx hb dX9_init_318 (by decide) ?_
    refine lv_istore_n (i := 1) (lv' := [(1, .int (0 : Int32)), (0, .ref o)]) hx hb dX9_init_319 rfl hl (by decide) rfl (fun ls hl1 => ?_)
    replace hl := hl1
    clear hl1
    obtain ⟨f1, hw⟩ := hw
    exact wk_X9_init_L320 hG f1 _ _ _ _ hk hn hZ (lv_sub hl [1, 0] rfl) hw
  exact key k n (Nat.le_refl _) (Nat.le_refl _)
