/-! Math.abs(D)D, Math.copySign(DD)D: natives' entries run them in their bytecode's place -/
set_option maxRecDepth 100000
def zgiven (locals : Array Slot) (n : Nat) : Array Value := (locals.toList.filterMap fun | .val v => some v | _ => none).toArray.extract 0 n
theorem z_stepOv {tb : Tables} {e : Env} {s : State} {f : JFrame} {rest : List Frame} {k : Class} {x : Method} {row : NativeRow}
    (hf : s.frames = .java f :: rest) (hpc : f.pc = 0) (hk : s.vm.classes[f.method.cls]? = some k) (hx : k.methods[f.method.idx]? = some x) (hin : overriddenIn.contains k.name = true) (hboot : k.loader = none)
    (hrow : NativeRow.find? tb.natives k.name x.name x.desc = some row) :
    stepThread tb e s = afterNative e { method := f.method, args := zgiven f.locals (x.sig.parameters.length + (if x.isStatic then 0 else 1)), locked := f.locked } rest
      ((row.sem (zgiven f.locals (x.sig.parameters.length + (if x.isStatic then 0 else 1)))).run e (s.setFrames (.native { method := f.method, args := zgiven f.locals (x.sig.parameters.length + (if x.isStatic then 0 else 1)), locked := f.locked } :: rest))) := by
  have hov : overridden tb e s f = some row := by
    have hin' : k.name ∈ overriddenIn := by simpa using hin
    unfold overridden
    simp [hpc, hk, hx, hin', hboot, hrow]
  have hcount : argCount s f.method = x.sig.parameters.length + (if x.isStatic then 0 else 1) := by simp [argCount, hk, hx]
  unfold stepThread
  simp only [hf, hov, hcount, zgiven]
  rfl
section ZN
variable {p : Program} {l : Launch} {e : Env} {R : Room} {s : State} {m : MethodId} {args : Array Value} {below : List Frame} {meth : Method} {c : Code} {H : Heap} {locs : List Loc} {cells slots : Nat} {Q : State → Prop}
variable {cc : ByteArray} {nL pc : Nat} {ls : Array Slot} {rest : List Value} {D : zD} {own : String}
theorem z_ovr {y : MethodName} {bytes : ByteArray} {maxL index : Nat} {ret : Option FieldType} {row : NativeRow} {As : List Value} {v : Option Value} {d0 : MethodDescriptor} (hC : zCx p s m args c cc nL own D) (hml : ls.size = nL) (hrow : NativeRow.find? p.tables.natives y.cls y.name y.desc = some row) (hin : overriddenIn.contains y.cls = true) (hy : y.cls ≠ "java/lang/invoke/MethodHandle" ∧ y.cls ≠ "java/lang/invoke/VarHandle")
    (hdesc : parseMethodDescriptor y.desc = some d0) (hlen : As.length = d0.parameters.length) (hlink : Cond.methodLink own index y ∈ lw_all) (hstat : Cond.static y ∈ lw_all) (hini : Cond.initialized y.cls ∈ lw_all) (hcode : Cond.code y bytes maxL ret ∈ lw_all)
    (hgiven : zgiven (argsToLocals As.toArray maxL) As.length = As.toArray)
    (hw : ∀ (U : State) (Q : Option Value → Pre), (∀ d' acts', Q v d' acts' U) → wp (row.sem As.toArray) Q (fun _ _ _ => False) e false [] U)
    (hrest : (rest.map fun v => v.category).sum ≤ 8) (hfr : 1 ≤ R.frames) (hlo : 8 + (maxL + 11) ≤ R.locals) (hdg : decode cc pc = .ok (.invokestatic index, 3))
    (k : W p l e R s m args below meth c H locs cells slots Q (F0 m (pc + 3) ls (v.toList ++ rest))) : W p l e R s m args below meth c H locs cells slots Q (F0 m pc ls (As.reverse ++ rest)) := by
  intro T hT X
  have hcode' := hC.ts _ hcode
  obtain ⟨mk, hnamed⟩ := Cond.code_named hcode'
  obtain ⟨methM, cM, hmethM, hcM, -, hmlM, -, hlM, -, hsigM⟩ := Cond.code_spec hnamed hcode'
  have hstatic : methM.isStatic = true := Cond.static_spec hnamed hmethM (hC.ts _ hstat)
  obtain ⟨kP, hkP, hkname⟩ := className_of_methodNamed hnamed
  have hinitP : kP.init = .initialized := Cond.initialized_spec (findClass_of_methodNamed hnamed) hkP (hC.ts _ hini)
  obtain ⟨hmn, hmd⟩ := name_of_methodNamed hnamed hmethM
  have hboot : kP.loader = none := Vm.bootOf_findClass (findClass_of_methodNamed hnamed) hkP
  cases hdesc.symm.trans hsigM
  obtain ⟨vm₁, X₁, hstep₁⟩ := X.invokestatic hC.x hC.o (hC.ts _ hlink) hnamed hmethM hstatic hkP hinitP hy (g := F0 m pc ls (As.reverse ++ rest)) rfl (argsL := As) (rest := rest) hlen rfl (by rw [hC.b]; exact hdg)
  obtain ⟨t, a1, b1⟩ := k (T.setVm vm₁) hT X₁
  refine ⟨t, hstep₁ _ fun acts => ?_, b1⟩
  obtain ⟨kV, hkV, heV⟩ := X₁.warmed.alike.2.2 _ _ hkP
  have hA := X₁.here
  have hxV : kV.methods[mk.idx]? = some methM := by
    have h9 : kP.methods[mk.idx]? = some methM := by simpa [Vm.method?, hkP] using hmethM
    rw [heV]; exact h9
  have hnV : kV.name = y.cls := by rw [heV]; exact hkname
  have hbV : kV.loader = none := by rw [heV]; exact hboot
  generalize hU : T.setVm vm₁ = U at *
  have hm : (U.setTop (F0 m pc ls rest)).vm.method? mk = some methM := by
    show U.vm.method? mk = some methM
    simp [Vm.method?, hkV, hxV]
  have hroom := X₁.notFull (g := F0 m pc ls rest) (hml.trans hC.ml.symm) (vars := maxL) hfr (by show 2 * 0 + (rest.map fun v => v.category).sum + (maxL + 11) ≤ R.locals; omega)
  rw [(doInvoke_java (s := U.setTop (F0 m pc ls rest)) (e := e) (acts := acts) (args := As.toArray) hm hcM hlM (by rw [hmlM]; exact hroom)).1]
  have hfe := frames_entered (g := F0 m pc ls rest) hA.top (.java { method := mk, pc := 0, locals := argsToLocals As.toArray cM.maxLocals, stack := [], locked := none })
  obtain ⟨mid, hmid⟩ := hA.above
  obtain ⟨g₀, hg⟩ := Option.isSome_iff_exists.mp hA.top
  obtain ⟨r, hr⟩ := State.topJava?_eq_some.mp hg
  have htl : U.frames.tail = r := by rw [hr]; rfl
  refine Steps.head ⟨hA.running, by simpa using hA.runnable, by simpa using hA.alone⟩
    ⟨.java { method := mk, pc := 0, locals := argsToLocals As.toArray cM.maxLocals, stack := [], locked := none } :: .java (F0 m pc ls rest) :: mid, by rw [hfe, hmid]; rfl, by simp, by simp⟩ ?_
  rw [z_stepOv (f := { method := mk, pc := 0, locals := argsToLocals As.toArray cM.maxLocals, stack := [], locked := none }) (k := kV) (x := methM) (row := row) hfe rfl hkV hxV (by rw [hnV]; exact hin) hbV (by rw [hnV, hmn, hmd]; exact hrow)]
  have hgv : zgiven (argsToLocals As.toArray cM.maxLocals) (methM.sig.parameters.length + (if methM.isStatic then 0 else 1)) = As.toArray := by
    rw [hstatic, hmlM, ← hlen]
    exact hgiven
  simp only [hgv]
  have hS : ((U.setTop (F0 m pc ls rest)).pushFrame (.java { method := mk, pc := 0, locals := argsToLocals As.toArray cM.maxLocals, stack := [], locked := none })).setFrames (.native { method := mk, args := As.toArray, locked := none } :: .java (F0 m pc ls rest) :: U.frames.tail)
      = U.setFrames (.native { method := mk, args := As.toArray, locked := none } :: .java (F0 m pc ls rest) :: r) := by
    rw [State.pushFrame, State.setFrames_setFrames, State.setTop_of_frames _ hr, State.setFrames_setFrames, htl]
  rw [hS]
  have hcur : U.cur < U.threads.size := State.cur_lt_of_frames hr
  have hw1 : wpRun (row.sem As.toArray) (fun v' s₁ _ => v' = v ∧ s₁ = U.setFrames (.native { method := mk, args := As.toArray, locked := none } :: .java (F0 m pc ls rest) :: r)) (fun _ _ _ => False) e (U.setFrames (.native { method := mk, args := As.toArray, locked := none } :: .java (F0 m pc ls rest) :: r)) :=
    hw _ _ (fun _ _ => ⟨rfl, rfl⟩)
  have hw2 := (wpRun_iff_run _ _ _ _ _).mp hw1
  cases hrun : (row.sem As.toArray).run e (U.setFrames (.native { method := mk, args := As.toArray, locked := none } :: .java (F0 m pc ls rest) :: r)) with
  | ctl x s₁ acts₁ => rw [hrun] at hw2; cases x <;> exact hw2.elim
  | ok v' s₁ acts₁ =>
    rw [hrun] at hw2
    obtain ⟨rfl, rfl⟩ := hw2
    show Steps p.tables e below (doReturn e (U.setFrames (.native { method := mk, args := As.toArray, locked := none } :: .java (F0 m pc ls rest) :: r)) acts₁ v').1 t
    have hfr3 : (U.setFrames (.native { method := mk, args := As.toArray, locked := none } :: .java (F0 m pc ls rest) :: r)).frames = .native { method := mk, args := As.toArray, locked := none } :: .java (F0 m pc ls rest) :: r := State.frames_setFrames _ hcur
    have hcd : ∀ fs, (U.setFrames fs).code? m = some c := fun fs => hA.code
    have hdg' : decode c.code pc = .ok (.invokestatic index, 3) := by rw [hC.b]; exact hdg
    have hfs : handOver (U.setFrames (.native { method := mk, args := As.toArray, locked := none } :: .java (F0 m pc ls rest) :: r)) v' (.java (F0 m pc ls rest) :: r) = some (.java (F0 m (pc + 3) ls (v'.toList ++ rest)) :: r) := by
      simp [handOver, F0, hcd, hdg', Except.toOption]
    rw [doReturn_native (f := { method := mk, args := As.toArray, locked := none }) hfr3 rfl hfs, State.setFrames_setFrames, ← State.setTop_of_frames (s := U) _ hr]
    exact a1
def znabs : MethodName := ⟨"java/lang/Math", "abs", "(D)D"⟩
def zncps : MethodName := ⟨"java/lang/Math", "copySign", "(DD)D"⟩
def zrabs : NativeRow := (NativeRow.find? Native.java_lang_Math.nans.rows "java/lang/Math" "abs" "(D)D").get (by decide +kernel)
def zrcps : NativeRow := (NativeRow.find? Native.java_lang_Math.nans.rows "java/lang/Math" "copySign" "(DD)D").get (by decide +kernel)
theorem zrabs_row (p : Program) : NativeRow.find? p.tables.natives "java/lang/Math" "abs" "(D)D" = some zrabs := by
  cases p <;> rfl
theorem zrcps_row (p : Program) : NativeRow.find? p.tables.natives "java/lang/Math" "copySign" "(DD)D" = some zrcps := by
  cases p <;> rfl
def zcps (a b : UInt64) : UInt64 := (a &&& 0x7fffffffffffffff) ||| (if b >>> 63 == 1 then 0x8000000000000000 else 0)
theorem z_absD {index : Nat} {b : UInt64} (hC : zCx p s m args c cc nL own D) (hml : ls.size = nL) (hv : b &&& 0x7fffffffffffffff ≤ 0x7ff0000000000000) (hlink : Cond.methodLink own index znabs ∈ lw_all) (hrest : (rest.map fun v => v.category).sum ≤ 8) (hfr : 1 ≤ R.frames) (hlo : 64 ≤ R.locals) (hdg : decode cc pc = .ok (.invokestatic index, 3))
    (k : W p l e R s m args below meth c H locs cells slots Q (F0 m (pc + 3) ls (.double (b &&& 0x7fffffffffffffff) :: rest))) : W p l e R s m args below meth c H locs cells slots Q (F0 m pc ls (.double b :: rest)) := by
  refine z_ovr (y := znabs) (As := [.double b]) (v := some (.double (b &&& 0x7fffffffffffffff))) hC hml (zrabs_row p) (by decide) (by decide) (d0 := { parameters := [.double], returnType := some .double }) (by decide +kernel) rfl hlink q1698 q69 q1699 rfl ?_ hrest hfr (by omega) hdg k
  intro U Q hq
  show wp (do let r ← anyNaN64 (b &&& 0x7fffffffffffffff); Jvm.mark "nat.java_lang_Math.abs"; Pure.pure (some (.double r))) Q _ e _ _ U
  have h2 : b &&& 0x7fffffffffffffff &&& 0x7fffffffffffffff ≤ 0x7ff0000000000000 := by rw [UInt64.and_assoc, UInt64.and_self]; exact hv
  simpa [anyNaN64, h2] using hq _ _
theorem z_cpsD {index : Nat} {a b : UInt64} (hC : zCx p s m args c cc nL own D) (hml : ls.size = nL) (hv : FP.dIsNaN b = false) (hlink : Cond.methodLink own index zncps ∈ lw_all) (hrest : (rest.map fun v => v.category).sum ≤ 8) (hfr : 1 ≤ R.frames) (hlo : 64 ≤ R.locals) (hdg : decode cc pc = .ok (.invokestatic index, 3))
    (k : W p l e R s m args below meth c H locs cells slots Q (F0 m (pc + 3) ls (.double (zcps a b) :: rest))) : W p l e R s m args below meth c H locs cells slots Q (F0 m pc ls (.double b :: .double a :: rest)) := by
  refine z_ovr (y := zncps) (As := [.double a, .double b]) (v := some (.double (zcps a b))) hC hml (zrcps_row p) (by decide) (by decide) (d0 := { parameters := [.double, .double], returnType := some .double }) (by decide +kernel) rfl hlink q1688 q69 q1689 rfl ?_ hrest hfr (by omega) hdg k
  intro U Q hq
  show wp (do let negative ← Native.java_lang_Math.nans.signOf (FP.dIsNaN b) (b >>> 63 == 1); Jvm.mark "nat.java_lang_Math.copySign"; Pure.pure (some (.double ((a &&& 0x7fffffffffffffff) ||| (if negative then 0x8000000000000000 else 0))))) Q _ e _ _ U
  simpa [Native.java_lang_Math.nans.signOf, hv, zcps] using hq _ _
end ZN
