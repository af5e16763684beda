set_option maxRecDepth 100000
abbrev rm_J18_rint : Room := { frames := 1, cells := 0, slots := 0, locals := 64 }
def wp_J18_rint_L28 (D : zD) (post : UInt64 → zM → Prop) (x0 : UInt64) (x4 : UInt64) (M : zM) : Prop :=
    (vf_n64 (FP.dmul x4 x0) ∧ post (FP.dmul x4 x0) M)
set_option maxHeartbeats 4000000 in
set_option maxRecDepth 100000 in
theorem wk_J18_rint_L28 {p : Program} {l : Launch} {e : Env} {s : State} {m : MethodId} {args : Array Value} {below : List Frame} {meth : Method} {c : Code} {D : zD} {post : UInt64 → zM → Prop} (hG : zGx p l s m args meth c cJ18_rint 6 "java/lang/StrictMath" D (some .double) "rint" []) : ∀ {H : Heap} {locs : List Loc} {cells slots : Nat} {ls : Array Slot} (x0 : UInt64) (x4 : UInt64) (M : zM), cells ≤ 0 → slots ≤ 0 → zS D M H locs → lv_has ls 6 [(0, .double x0), (4, .double x4)] → wp_J18_rint_L28 D post x0 x4 M → W p l e rm_J18_rint s m args below meth c H locs cells slots (vx_MQ below (zQ D zDb post) (zX D (fun _ _ => False)) args s 0 0 (zA D)) (F0 m 28 ls []) := by
  have hC := hG.1
  have hx := hC.x
  have hb := hC.b
  have hown := hC.o
  have hts := hC.ts
  have hlt := hG.2.2.2.2.2
  intro H locs cells slots ls x0 x4 M hk hn hZ hl hw
  refine lv_dload hx hb dJ18_rint_28 (lv_at hl 1 rfl) ?_
  refine lv_dload_n hx hb dJ18_rint_30 rfl (lv_at hl 0 rfl) ?_
  obtain ⟨hnf, hw⟩ := hw
  refine lv_dmul hx hb dJ18_rint_31 hnf ?_
  exact z_dret hG hZ hk hn hw dJ18_rint_32
def wp_J18_rint (D : zD) (post : UInt64 → zM → Prop) (a0 : UInt64) (M : zM) : Prop :=
    (FP.dIsNaN a0 = false ∧ (a0 &&& 0x7fffffffffffffff ≤ 0x7ff0000000000000 ∧ ((0 ≤ (Op.cmpValue (FP.dcmp (a0 &&& 0x7fffffffffffffff) (4841369599423283200 : UInt64)) .g) → wp_J18_rint_L28 D post (a0 &&& 0x7fffffffffffffff) (zcps FP.dconst1 a0) M) ∧ (¬ 0 ≤ (Op.cmpValue (FP.dcmp (a0 &&& 0x7fffffffffffffff) (4841369599423283200 : UInt64)) .g) → (vf_n64 (FP.dadd (4841369599423283200 : UInt64) (a0 &&& 0x7fffffffffffffff)) ∧ (vf_n64 (FP.dsub (FP.dadd (4841369599423283200 : UInt64) (a0 &&& 0x7fffffffffffffff)) (4841369599423283200 : UInt64)) ∧ wp_J18_rint_L28 D post (FP.dsub (FP.dadd (4841369599423283200 : UInt64) (a0 &&& 0x7fffffffffffffff)) (4841369599423283200 : UInt64)) (zcps FP.dconst1 a0) M))))))
set_option maxHeartbeats 4000000 in
set_option maxRecDepth 100000 in
theorem w_J18_rint {l : Launch} {D : zD} {post : UInt64 → zM → Prop} (hlt : l.stackTraces = false) {a0 : UInt64} {M : zM} (hw : wp_J18_rint D post a0 M) : zMet l D yJ18_rint (ws_ yJ18_rint cJ18_rint 6 (some .double)) rm_J18_rint 0 0 [.double a0] M zDb post (fun _ _ => False) := by
  unfold wp_J18_rint at hw
  have hlv : lv_args 0 [.double a0] = [(0, .double a0)] := (zargs2 rfl rfl)
  refine z_ofW hlt (by decide) (Nat.le_trans (zsl2 rfl (Nat.le_refl 0 : (lg_sl []).length ≤ 0)) (Nat.le_of_ble_eq_true rfl)) hlv ?_
  intro p e s m args below meth c ls hG hZ hl
  have hC := hG.1
  have hx := hC.x
  have hb := hC.b
  have hown := hC.o
  have hts := hC.ts
  have hlt := hG.2.2.2.2.2
  obtain ⟨cells, hce⟩ : ∃ z : Nat, z = 0 := ⟨0, rfl⟩
  obtain ⟨slots, hsl⟩ : ∃ z : Nat, z = 0 := ⟨0, rfl⟩
  refine W.cs (cells' := cells) (slots' := slots) hce.symm hsl.symm ?_
  have hk : cells ≤ 0 := Nat.le_of_eq hce
  have hn : slots ≤ 0 := Nat.le_of_eq hsl
  clear hce hsl
  refine lv_ldc2d hx hb hown (hts _ q1686) dJ18_rint_0 ?_
  refine lv_dstore_n (i := 2) (lv' := [(2, .double (4841369599423283200 : UInt64)), (0, .double a0)]) hx hb dJ18_rint_3 rfl hl (by decide) rfl (fun ls hl1 => ?_)
  replace hl := hl1
  clear hl1
  refine lv_dconst1 hx hb dJ18_rint_4 ?_
  refine lv_dload_n hx hb dJ18_rint_5 rfl (lv_at hl 1 rfl) ?_
  obtain ⟨hv0, hw⟩ := hw
  refine z_cpsD hC hl.1 hv0 q1687 (Nat.le_trans zrm0 (Nat.le_of_ble_eq_true rfl)) (Nat.le_of_ble_eq_true rfl) (Nat.le_of_ble_eq_true rfl) dJ18_rint_6 ?_
  refine lv_dstore (i := 4) (lv' := [(4, .double (zcps FP.dconst1 a0)), (2, .double (4841369599423283200 : UInt64)), (0, .double a0)]) hx hb dJ18_rint_9 hl (by decide) rfl (fun ls hl1 => ?_)
  replace hl := hl1
  clear hl1
  refine lv_dload_n hx hb dJ18_rint_11 rfl (lv_at hl 2 rfl) ?_
  obtain ⟨hv0, hw⟩ := hw
  refine z_absD hC hl.1 hv0 q1697 (Nat.le_trans zrm0 (Nat.le_of_ble_eq_true rfl)) (Nat.le_of_ble_eq_true rfl) (Nat.le_of_ble_eq_true rfl) dJ18_rint_12 ?_
  refine lv_dstore_n (i := 0) (lv' := [(0, .double (a0 &&& 0x7fffffffffffffff)), (4, .double (zcps FP.dconst1 a0)), (2, .double (4841369599423283200 : UInt64))]) hx hb dJ18_rint_15 rfl hl (by decide) rfl (fun ls hl1 => ?_)
  replace hl := hl1
  clear hl1
  refine lv_dload_n hx hb dJ18_rint_16 rfl (lv_at hl 0 rfl) ?_
  refine lv_dload_n hx hb dJ18_rint_17 rfl (lv_at hl 2 rfl) ?_
  refine lv_dcmp hx hb dJ18_rint_18 ?_
  refine lv_if_ge (tgt := 28) hx hb dJ18_rint_19 (by decide) (fun c2 => ?_) (fun c2 => ?_)
  · replace hw := hw.1 c2
    exact wk_J18_rint_L28 hG _ _ _ hk hn hZ (lv_sub hl [0, 1] rfl) hw
  · replace hw := hw.2 c2
    refine lv_dload_n hx hb dJ18_rint_22 rfl (lv_at hl 2 rfl) ?_
    refine lv_dload_n hx hb dJ18_rint_23 rfl (lv_at hl 0 rfl) ?_
    obtain ⟨hnf, hw⟩ := hw
    refine lv_dadd hx hb dJ18_rint_24 hnf ?_
    refine lv_dload_n hx hb dJ18_rint_25 rfl (lv_at hl 2 rfl) ?_
    obtain ⟨hnf, hw⟩ := hw
    refine lv_dsub hx hb dJ18_rint_26 hnf ?_
    refine lv_dstore_n (i := 0) (lv' := [(0, .double (FP.dsub (FP.dadd (4841369599423283200 : UInt64) (a0 &&& 0x7fffffffffffffff)) (4841369599423283200 : UInt64))), (4, .double (zcps FP.dconst1 a0)), (2, .double (4841369599423283200 : UInt64))]) hx hb dJ18_rint_27 rfl hl (by decide) rfl (fun ls hl1 => ?_)
    replace hl := hl1
    clear hl1
    exact wk_J18_rint_L28 hG _ _ _ hk hn hZ (lv_sub hl [0, 1] rfl) hw
