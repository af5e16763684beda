/-! exceptions: what the machine throws by itself, and those that the code makes with a text -/
set_option maxRecDepth 100000
def zwd (w : Cond) : Prop := vx_no w = true → w ∈ lw_all ∨ (w ∈ lw_tbl ∧ zNw w = true)
theorem zap {α : Type} {P : α → Prop} {A B : List α} (h1 : ∀ x ∈ A, P x) (h2 : ∀ x ∈ B, P x) : ∀ x ∈ A ++ B, P x := List.forall_mem_append.mpr ⟨h1, h2⟩
theorem zw_t : ∀ w ∈ Bundle.throwableAtoms, zwd w := (zal (fun _ => Or.inl q91) (zal (fun _ => Or.inl q670) (zal (fun _ => Or.inl q679) (zal (fun _ => Or.inl q683) (zal (fun _ => Or.inl q686) (zal (fun _ => Or.inl q688) (zal (fun _ => Or.inl q671) (zal (fun _ => Or.inl q672) (zal (fun _ => Or.inl q124) (zal (fun _ => Or.inl q125) (zal (fun _ => Or.inl q673) (zal (fun _ => Or.inl q678) (zal (fun _ => Or.inl q684) (zal (fun _ => Or.inl q705) (zal (fun _ => Or.inl q660) (zal (fun _ => Or.inl q706) (zal (fun _ => Or.inl q662) (zal (fun _ => Or.inl q707) (zal (fun _ => Or.inl q664) (zal (fun _ => Or.inl q674) (zal (fun h => absurd h (by decide)) (zal (fun _ => Or.inl q676) (zal (fun h => absurd h (by decide)) (zal (fun _ => Or.inl q666) za0))))))))))))))))))))))))
theorem zw_ts : ∀ w ∈ Bundle.throwableSAtoms, zwd w := (zal (fun _ => Or.inl q1300) (zal (fun _ => Or.inl q1301) (zal (fun _ => Or.inl q704) (zal (fun _ => Or.inl q666) za0))))
theorem zw_s : ∀ w ∈ Bundle.stringAtoms, zwd w := (zal (fun _ => Or.inl q102) (zal (fun _ => Or.inl q1311) (zal (fun _ => Or.inl q219) (zal (fun _ => Or.inl q1312) (zal (fun _ => Or.inl q1314) (zal (fun _ => Or.inl q1313) (zal (fun _ => Or.inl q1315) za0)))))))
theorem zw_c28 : ∀ w ∈ Bundle.chainSAtoms "java/lang/ArithmeticException" ["java/lang/RuntimeException", "java/lang/Exception"], zwd w := zap ((zal (fun _ => Or.inl q1291) (zal (fun _ => Or.inl q1292) (zal (fun _ => Or.inl q1293) (zal (fun _ => Or.inl q1294) (zal (fun _ => Or.inr ⟨q652, rfl⟩) za0)))))) (zap ((zal (fun _ => Or.inl q1294) (zal (fun _ => Or.inl q1295) (zal (fun _ => Or.inl q1296) (zal (fun _ => Or.inl q1297) (zal (fun _ => Or.inr ⟨q654, rfl⟩) za0)))))) ((zal (fun _ => Or.inl q1297) (zal (fun _ => Or.inl q1298) (zal (fun _ => Or.inl q1299) (zal (fun _ => Or.inl q1300) (zal (fun _ => Or.inr ⟨q656, rfl⟩) za0)))))))
theorem zw_M28 : ∀ w ∈ vx_atM "java/lang/ArithmeticException" ["java/lang/RuntimeException", "java/lang/Exception"], w ∈ lw_all ∨ (w ∈ lw_tbl ∧ zNw w = true) := fun w hw => (zap (zap (zap (zap zw_t zw_ts) zw_c28) zw_s) ((zal (fun _ => Or.inl q112) (zal (fun _ => Or.inl q1290) (zal (fun _ => Or.inr ⟨q1309, rfl⟩) (zal (fun _ => Or.inl q1310) (zal (fun _ => Or.inl q681) (zal (fun _ => Or.inl q1304) (zal (fun _ => Or.inl q1305) (zal (fun _ => Or.inl q1307) (zal (fun _ => Or.inl q1303) (zal (fun h => absurd h (by decide)) (zal (fun h => absurd h (by decide)) (zal (fun _ => Or.inl q703) (zal (fun _ => Or.inl q668) (zal (fun _ => Or.inl q1302) za0))))))))))))))) : ∀ w ∈ Bundle.messageArmAtoms "java/lang/ArithmeticException" ["java/lang/RuntimeException", "java/lang/Exception"], zwd w) w (List.mem_filter.mp hw).1 (List.mem_filter.mp hw).2
theorem zw_c29 : ∀ w ∈ Bundle.chainSAtoms "java/lang/NegativeArraySizeException" ["java/lang/RuntimeException", "java/lang/Exception"], zwd w := zap ((zal (fun _ => Or.inl q1619) (zal (fun _ => Or.inl q1620) (zal (fun _ => Or.inl q1621) (zal (fun _ => Or.inl q1294) (zal (fun _ => Or.inr ⟨q652, rfl⟩) za0)))))) (zap ((zal (fun _ => Or.inl q1294) (zal (fun _ => Or.inl q1295) (zal (fun _ => Or.inl q1296) (zal (fun _ => Or.inl q1297) (zal (fun _ => Or.inr ⟨q654, rfl⟩) za0)))))) ((zal (fun _ => Or.inl q1297) (zal (fun _ => Or.inl q1298) (zal (fun _ => Or.inl q1299) (zal (fun _ => Or.inl q1300) (zal (fun _ => Or.inr ⟨q656, rfl⟩) za0)))))))
theorem zw_M29 : ∀ w ∈ vx_atM "java/lang/NegativeArraySizeException" ["java/lang/RuntimeException", "java/lang/Exception"], w ∈ lw_all ∨ (w ∈ lw_tbl ∧ zNw w = true) := fun w hw => (zap (zap (zap (zap zw_t zw_ts) zw_c29) zw_s) ((zal (fun _ => Or.inl q114) (zal (fun _ => Or.inl q1618) (zal (fun _ => Or.inr ⟨q1629, rfl⟩) (zal (fun _ => Or.inl q1630) (zal (fun _ => Or.inl q682) (zal (fun _ => Or.inl q1624) (zal (fun _ => Or.inl q1625) (zal (fun _ => Or.inl q1627) (zal (fun _ => Or.inl q1623) (zal (fun h => absurd h (by decide)) (zal (fun h => absurd h (by decide)) (zal (fun _ => Or.inl q703) (zal (fun _ => Or.inl q668) (zal (fun _ => Or.inl q1622) za0))))))))))))))) : ∀ w ∈ Bundle.messageArmAtoms "java/lang/NegativeArraySizeException" ["java/lang/RuntimeException", "java/lang/Exception"], zwd w) w (List.mem_filter.mp hw).1 (List.mem_filter.mp hw).2
theorem zw_S28 {own : String} {ic : Nat} (h : Cond.methodLink own ic (Bundle.initS "java/lang/ArithmeticException") ∈ lw_all) : ∀ w ∈ vx_atS own ic "java/lang/ArithmeticException" ["java/lang/RuntimeException", "java/lang/Exception"], w ∈ lw_all ∨ (w ∈ lw_tbl ∧ zNw w = true) := fun w hw => (zap (zap (zap zw_t zw_ts) zw_c28) ((zal (fun _ => Or.inl h) (zal (fun _ => Or.inl q1290) (zal (fun _ => Or.inr ⟨q1309, rfl⟩) (zal (fun _ => Or.inl q1310) (zal (fun _ => Or.inl q681) (zal (fun _ => Or.inl q1304) (zal (fun _ => Or.inl q1305) (zal (fun _ => Or.inl q1307) (zal (fun _ => Or.inl q1303) (zal (fun h => absurd h (by decide)) (zal (fun h => absurd h (by decide)) (zal (fun _ => Or.inl q703) (zal (fun _ => Or.inl q668) (zal (fun _ => Or.inl q1302) za0))))))))))))))) : ∀ w ∈ Bundle.ownAtoms own ic "java/lang/ArithmeticException" ["java/lang/RuntimeException", "java/lang/Exception"], zwd w) w (List.mem_filter.mp hw).1 (List.mem_filter.mp hw).2
theorem zw_at {args : Array Value} {s : State} {w : Cond} (hall : ∀ w ∈ lw_all, w.before args s = true) (hn : ∀ w ∈ lw_tbl, zNw w = true → va_Nw w s) (h : w ∈ lw_all ∨ (w ∈ lw_tbl ∧ zNw w = true)) : w.before args s = true := by
  rcases h with h | ⟨h, hz⟩
  · exact hall w h
  · exact va_Nw.use (zNw_on hz) (hn w h hz)
theorem zw_ot {w : Cond} (h : w ∈ lw_all ∨ (w ∈ lw_tbl ∧ zNw w = true)) : vx_ot w = true := by
  unfold vx_ot
  rcases h with h | ⟨h, hz⟩
  · rw [(List.mem_filter.mp h).2, Bool.or_true]
  · rw [zNw_on hz, Bool.true_or]
/-- a new cell behind others that the map doesn't name -/
theorem zS_newAt {D : zD} {M : zM} {H H1 : Heap} {locs : List Loc} {q : Nat} {e : zV} (h : zS D M H locs) (hq : H.size ≤ q) (he : zat D q e H1) (z : H.size ≤ H1.size) (oq : ∀ q : Nat, q < H.size → H1[q]? = H[q]?) : zS D (zu M q (some e)) H1 locs := by
  refine ⟨⟨fun b f hf => ?_, by have := h.1.2.1; omega, fun q hq => ?_⟩, h.2⟩
  · by_cases hba : b = q
    · subst hba
      rw [zu_s] at hf
      cases hf
      exact he
    · rw [zu_n hba] at hf
      exact zat_kept (h.1.1 b f hf) (oq b (zat_lt (h.1.1 b f hf)))
  · rw [oq q (by have := h.1.2.1; omega)]
    exact h.1.2.2 q hq
theorem zS_free {D : zD} {M : zM} {H : Heap} {locs : List Loc} {q : Nat} (h : zS D M H locs) (hq : H.size ≤ q) : M q = none := by
  cases hm : M q with
  | none => rfl
  | some e => exact absurd (zat_lt (h.1.1 _ _ hm)) (by omega)
section ZX
variable {p : Program} {l : Launch} {e : Env} {R : Room} {s : State} {m : MethodId} {args : Array Value} {below : List Frame} {meth : Method} {c : Code} {H : Heap} {locs : List Loc} {cells slots : Nat} {Q : State → Prop}
variable {cc : ByteArray} {nL pc : Nat} {ls : Array Slot} {rest : List Value} {D : zD} {M : zM} {own : String} {ret : Option FieldType} {nm : String} {tb : List ExceptionTableEntry}
theorem z_vmG {ci : Nat} {cls text : String} {T0 : u_T} (hG : zGx p l s m args meth c cc nL own D ret nm tb) (hZ : zS D M H locs) (hml : ls.size = nL) (hci : zCl[ci]? = some (cls, T0, 0)) (hcls : Bundle.fit cls = true) (hsoe : (cls == "java/lang/StackOverflowError") = false) (hoom : (cls == "java/lang/OutOfMemoryError") = false)
    (hw : ∀ w ∈ vx_atM cls ["java/lang/RuntimeException", "java/lang/Exception"], w ∈ lw_all ∨ (w ∈ lw_tbl ∧ zNw w = true)) (htext : (text == notModelled) = false) (hnb : (stringBytes (stringToUtf16 text)).size ≤ 50)
    (hrest : (rest.map fun v => v.category).sum ≤ 8) (hfr : 12 ≤ R.frames) (hlo : 10400 ≤ R.locals) (hk : cells + 3 ≤ R.cells) (hn : slots + 60 ≤ R.slots)
    (kk : ∀ (q : Nat) (H1 : Heap), M q = none → zB D ≤ q → zS D (zu M q (some (.inr (ci, [])))) H1 locs → vx_W p l e R s m args below meth c H1 locs (cells + 3) (slots + 60) Q (F0 m pc ls rest) q) :
    vx_Note p l e R s m args below meth c H locs cells slots Q (F0 m pc ls rest) cls text := by
  have hC := hG.1
  have hl := hG.2.2.2.2.2
  have hU0 : vx_Zq Bundle.tN "UNASSIGNED_STACK" Bundle.steD (zA D) s H := (hC.K.2.2.2.2.2.2.1.2.1).kept (fun a h1 h2 => hZ.1.2.2 a h1)
  have hN0 : vx_Zq Bundle.tN "SUPPRESSED_SENTINEL" Bundle.listD (zA D) s H := (hC.K.2.2.2.2.2.2.1.2.2).kept (fun a h1 h2 => hZ.1.2.2 a h1)
  have hat : ∀ w ∈ vx_atM cls ["java/lang/RuntimeException", "java/lang/Exception"], w.before args s = true := fun w h => zw_at hC.ts hC.K.2.1 (hw w h)
  have hgood : ∀ w ∈ vx_atM cls ["java/lang/RuntimeException", "java/lang/Exception"], vx_ot w = true := fun w h => zw_ot (hw w h)
  intro T hT X
  have htr : e.platform.stackTraces = false := (show e.platform.stackTraces = l.stackTraces by rw [X.admits.platform]).trans hl
  have Y := vx_rebase X (R' := { frames := R.frames, locals := R.locals, cells := 3, slots := 60 }) (Nat.le_refl _) (Nat.le_refl _) hk hn
  have hhp : ((T.setVm s.vm).setFrames (.invoking m args :: below)).heap = H := hT
  have hW0 : s.WarmedH ((T.setVm s.vm).setFrames (.invoking m args :: below)).vm := State.WarmedH.refl s
  have hat' : ∀ w ∈ vx_atM cls ["java/lang/RuntimeException", "java/lang/Exception"], w.before args ((T.setVm s.vm).setFrames (.invoking m args :: below)) = true := fun w hw => vx_ot_at hW0 rfl (hgood w hw) (hat w hw)
  have hU' : vx_Zq Bundle.tN "UNASSIGNED_STACK" Bundle.steD (zA D) ((T.setVm s.vm).setFrames (.invoking m args :: below)) ((T.setVm s.vm).setFrames (.invoking m args :: below)).heap := by rw [hhp]; exact vx_Zq.moved hW0.alike hU0
  have hN' : vx_Zq Bundle.tN "SUPPRESSED_SENTINEL" Bundle.listD (zA D) ((T.setVm s.vm).setFrames (.invoking m args :: below)) ((T.setVm s.vm).setFrames (.invoking m args :: below)).heap := by rw [hhp]; exact vx_Zq.moved hW0.alike hN0
  obtain ⟨S, q, ce, st, Z, hce, hcl', hv, hq9⟩ := vx_vmAt Y (hC.x) htr (cls := cls) (names := ["java/lang/RuntimeException", "java/lang/Exception"]) (text := text) hcls (by decide +kernel) hsoe hoom (vx_own hat' (vx_isRefq hU'.1) (vx_isRefq hN'.1) hU'.2.word hN'.2.word) (fun x hx => nomatch hx) htext
    (by rw [Launch.admits_arrayLengthLimit X.admits]; omega) (by rw [Launch.admits_maxHeapBytes X.admits]; simp only [componentBytes]; omega)
    (g := F0 m pc ls rest) rfl (hml.trans hC.ml.symm) (by show 2 + 4 < R.frames; omega) (by show 2 * 0 + (rest.map fun v => v.category).sum + 10240 ≤ R.locals; omega) (by decide) (by show 0 + 3 ≤ 3; omega) (by show 0 + (_ + 4 + 6) ≤ 60; omega) hG.2.2.1
  obtain ⟨f1, f2⟩ := vx_frame Z.same
  have f1' : H.size ≤ S.heap.size := by rw [← hT]; exact f1
  have f2' : ∀ q : Nat, q < H.size → S.heap[q]? = H[q]? := fun q hq => by
    rw [← hT]
    exact f2 q (by rw [← hT] at hq; exact hq) (fun z hz => nomatch hz)
  have hqH : H.size ≤ q := by rw [← hT]; exact hq9
  have X5 := vx_back9 X Y Z
  have X6 : Stand p l e R s m args below meth c S locs (cells + 3) (slots + 60) := { X5 with same := X5.same.mono (by omega) (by omega) }
  have hqB : zB D ≤ q := Nat.le_trans hZ.1.2.1 hqH
  have hcid : ce.cls = D.1.1 ci := by
    have h1 := (hC.vK.1 ci _ hci).2.1
    exact Option.some.inj (hcl'.symm.trans h1)
  have he : zat D q (.inr (ci, [])) S.heap := (zat_obj hqB).mpr ⟨_, hci, ce, hce, hcid, hv, fun k hk => absurd hk (Nat.not_lt_zero k)⟩
  obtain ⟨t, a1, b1⟩ := kk q S.heap (zS_free hZ hqH) hqB (zS_newAt hZ hqH he f1' f2') S rfl X6
  exact ⟨t, st t a1, b1⟩
theorem z_vm28 (hG : zGx p l s m args meth c cc nL own D ret nm tb) (hZ : zS D M H locs) (hml : ls.size = nL) (hrest : (rest.map fun v => v.category).sum ≤ 8) (hfr : 12 ≤ R.frames) (hlo : 10400 ≤ R.locals) (hk : cells + 3 ≤ R.cells) (hn : slots + 60 ≤ R.slots)
    (kk : ∀ (q : Nat) (H1 : Heap), M q = none → zB D ≤ q → zS D (zu M q (some (.inr (28, [])))) H1 locs → vx_W p l e R s m args below meth c H1 locs (cells + 3) (slots + 60) Q (F0 m pc ls rest) q) :
    vx_Note p l e R s m args below meth c H locs cells slots Q (F0 m pc ls rest) "java/lang/ArithmeticException" "/ by zero" :=
  z_vmG (ci := 28) hG hZ hml rfl (by decide +kernel) (by decide +kernel) (by decide +kernel) zw_M28 (by decide +kernel) (by decide +kernel) hrest hfr hlo hk hn kk
theorem z_vm29 {n : Int32} {tx : String} (hG : zGx p l s m args meth c cc nL own D ret nm tb) (hZ : zS D M H locs) (hml : ls.size = nL) (htx : tx = toString n) (hz0 : n < 0) (hrest : (rest.map fun v => v.category).sum ≤ 8) (hfr : 12 ≤ R.frames) (hlo : 10400 ≤ R.locals) (hk : cells + 3 ≤ R.cells) (hn : slots + 60 ≤ R.slots)
    (kk : ∀ (q : Nat) (H1 : Heap), M q = none → zB D ≤ q → zS D (zu M q (some (.inr (29, [])))) H1 locs → vx_W p l e R s m args below meth c H1 locs (cells + 3) (slots + 60) Q (F0 m pc ls rest) q) :
    vx_Note p l e R s m args below meth c H locs cells slots Q (F0 m pc ls rest) "java/lang/NegativeArraySizeException" tx := by
  subst htx
  exact z_vmG (ci := 29) hG hZ hml rfl (by decide +kernel) (by decide +kernel) (by decide +kernel) zw_M29 (negative_text_modelled hz0) (Nat.le_trans (negative_text_bytes n) (by decide)) hrest hfr hlo hk hn kk
/-- 'new ArithmeticException("text")' -/
theorem z_makeA {text : String} {ik is ic i : Nat} (hG : zGx p l s m args meth c cc nL own D ret nm tb) (hZ : zS D M H locs) (hml : ls.size = nL) (hi : zStr[i]? = some (own, is, text)) (hk9 : Cond.classLink own ik "java/lang/ArithmeticException" ∈ lw_all) (hic : Cond.methodLink own ic (Bundle.initS "java/lang/ArithmeticException") ∈ lw_all)
    (d0 : decode cc pc = .ok (.new ik, 3)) (d3 : decode cc (pc + 3) = .ok (.dup, 1)) (d4 : decode cc (pc + 4) = .ok (.ldc is, 2)) (d6 : decode cc (pc + 6) = .ok (.invokespecial ic, 3))
    (hrest : (rest.map fun v => v.category).sum ≤ 8) (hfr : 12 ≤ R.frames) (hlo : 200 ≤ R.locals) (hRcells : cells + 1 ≤ R.cells) (hRslots : slots + 6 ≤ R.slots)
    (kk : ∀ (q : Nat) (H1 : Heap), M q = none → zB D ≤ q → zS D (zu M q (some (.inr (28, [])))) H1 locs → W p l e R s m args below meth c H1 locs (cells + 1) (slots + 6) Q (F0 m (pc + 9) ls (.ref q :: rest))) :
    W p l e R s m args below meth c H locs cells slots Q (F0 m pc ls rest) := by
  have hC := hG.1
  have hl := hG.2.2.2.2.2
  have hstr := hC.K.2.2.2.2.2.2.2.1 i _ hi
  have hU0 : vx_Zq Bundle.tN "UNASSIGNED_STACK" Bundle.steD (zA D) s H := (hC.K.2.2.2.2.2.2.1.2.1).kept (fun a h1 h2 => hZ.1.2.2 a h1)
  have hN0 : vx_Zq Bundle.tN "SUPPRESSED_SENTINEL" Bundle.listD (zA D) s H := (hC.K.2.2.2.2.2.2.1.2.2).kept (fun a h1 h2 => hZ.1.2.2 a h1)
  have hwS := zw_S28 hic
  intro T hT X
  subst hT
  have htr : e.platform.stackTraces = false := (show e.platform.stackTraces = l.stackTraces by rw [X.admits.platform]).trans hl
  have Y := vx_rebase X (R' := { frames := R.frames, locals := R.locals, cells := 1, slots := 6 }) (Nat.le_refl _) (Nat.le_refl _) hRcells hRslots
  obtain ⟨s', hA'⟩ : ∃ z, z = (T.setVm s.vm).setFrames (.invoking m args :: below) := ⟨_, rfl⟩
  rw [← hA'] at Y
  have hvm : s'.vm = s.vm := by rw [hA']; rfl
  have hhp : s'.heap = T.heap := by rw [hA']; rfl
  have hW0 : s.WarmedH s'.vm := by rw [hvm]; exact State.WarmedH.refl s
  have hat' : ∀ w ∈ vx_atS own ic "java/lang/ArithmeticException" ["java/lang/RuntimeException", "java/lang/Exception"], w.before args s' = true := fun w hw => vx_ot_at hW0 hvm.symm (zw_ot (hwS w hw)) (zw_at hC.ts hC.K.2.1 (hwS w hw))
  have hk' : (Cond.classLink own ik "java/lang/ArithmeticException").before args s' = true := vx_ot_at hW0 hvm.symm (zw_ot (Or.inl hk9)) (hC.ts _ hk9)
  have hini' : (Cond.initialized "java/lang/ArithmeticException").before args s' = true := vx_ot_at hW0 hvm.symm (zw_ot (Or.inl q112)) (hC.ts _ q112)
  have hU' : vx_Zq Bundle.tN "UNASSIGNED_STACK" Bundle.steD (zA D) s' s'.heap := by rw [hhp]; exact vx_Zq.moved hW0.alike hU0
  have hN' : vx_Zq Bundle.tN "SUPPRESSED_SENTINEL" Bundle.listD (zA D) s' s'.heap := by rw [hhp]; exact vx_Zq.moved hW0.alike hN0
  have h : ∀ w ∈ Bundle.ownAtoms own ic "java/lang/ArithmeticException" ["java/lang/RuntimeException", "java/lang/Exception"], w.before args s' = true := vx_own hat' (vx_isRefq hU'.1) (vx_isRefq hN'.1) hU'.2.word hN'.2.word
  have hown' : s'.vm.findClass own = some m.cls := by rw [hvm]; exact hC.o
  have hins : (Cond.instantiable "java/lang/ArithmeticException" 6).before args s' = true := h _ (by simp [Bundle.ownAtoms])
  obtain ⟨vm₁, cX, kX, hfX, hkX, -, -, X₁, st1⟩ := Y.newCold hC.x (own := own) (C := "java/lang/ArithmeticException") (index := ik) (n := 6) hown' hk' hins hini'
    (g := F0 m pc ls rest) rfl (by rw [hC.b]; exact d0) (Nat.le_refl _) (Nat.le_refl _)
  generalize hT1 : (T.setVm vm₁).pushCell { cls := cX, slots := kX.instanceTypes.map defaultValue, vm := .none } = T1 at X₁ st1
  have hcat : (Value.ref T.heap.size).category = 1 := rfl
  have hcellA : T1.heap[T.heap.size]? = some (freshCell cX kX) := by rw [← hT1]; exact State.heap_pushCell_size _ _
  have d3' : decode c.code (pc + 3) = .ok (.dup, 1) := by rw [hC.b]; exact d3
  have d4' : decode c.code (pc + 4) = .ok (.ldc is, 2) := by rw [hC.b]; exact d4
  have hstr' : vk_R own is text (D.2.2.2 (10 + i)) s' := vk_R.warm hW0 hstr
  have hexec := hC.x
  obtain ⟨V, ce, L, Z, hL, hlt, hcl9, hvm9, st⟩ := vx_ctorMadeS X₁ hC.x htr (own := own) (cls := "java/lang/ArithmeticException") (names := ["java/lang/RuntimeException", "java/lang/Exception"]) (ic := ic) hown' (by decide +kernel) (by decide +kernel) h (fun x hx => nomatch hx) hfX hkX hcellA (by rw [hhp]; exact Nat.le_refl _) (msg := .ref (D.2.2.2 (10 + i))) rfl
    (g := { method := m, pc := pc + 6, locals := ls, stack := .ref (D.2.2.2 (10 + i)) :: .ref T.heap.size :: .ref T.heap.size :: rest, locked := none }) rfl (hml.trans hC.ml.symm) (rest := rest) rfl
    (by rw [hC.b]; exact d6) (by show 2 + 3 < R.frames; omega) (by simp only [List.map_cons, List.sum_cons, hcat, List.length_cons, List.length_nil]; omega)
  have Z0 := Stand.forget (locs := []) Z (fun y hy => by rw [hL y hy, hhp]; exact Nat.le_refl _)
  obtain ⟨f1, f2⟩ := vx_frame Z0.same
  rw [hhp] at f1 f2
  have hcid : ce.cls = D.1.1 28 := by
    rw [hcl9]
    have h1 := (hC.vK.1 28 _ zc28.1).2.1
    rw [hvm] at hfX
    exact Option.some.inj (hfX.symm.trans h1)
  have hh : (V.setCell T.heap.size ce).heap[T.heap.size]? = some ce := heapAt_setCell_self (s := V) ce hlt
  subst hA'
  have X5 := vx_back9 X Y Z0
  have X6 : Stand p l e R s m args below meth c (V.setCell T.heap.size ce) locs (cells + 1) (slots + 6) := { X5 with same := X5.same.mono (by omega) (by omega) }
  have hqB : zB D ≤ T.heap.size := hZ.1.2.1
  have he : zat D T.heap.size (.inr (28, [])) (V.setCell T.heap.size ce).heap := (zat_obj hqB).mpr ⟨_, zc28.1, ce, hh, hcid, hvm9, fun k hk => absurd hk (Nat.not_lt_zero k)⟩
  obtain ⟨t, a1, b1⟩ := kk T.heap.size (V.setCell T.heap.size ce).heap (zH_fresh hZ.1) hqB (zS_newAt hZ (Nat.le_refl _) he f1 (fun q hq => f2 q hq (fun z hz => nomatch hz))) _ rfl X6
  refine ⟨t, st1 _ ?_, b1⟩
  show Steps p.tables e below (T1.setTop { method := m, pc := pc + 3, locals := ls, stack := .ref T.heap.size :: rest, locked := none }) _
  jvm_step X₁.here [X₁.here.top, hexec, d3', Value.category]
  exact X₁.ldcString hexec (own := own) (text := text) (index := is) (a := D.2.2.2 (10 + i)) hown' hstr'.1 hstr'.2
    (g := { method := m, pc := pc + 4, locals := ls, stack := .ref T.heap.size :: .ref T.heap.size :: rest, locked := none }) rfl d4' _ (st _ a1)
end ZX
