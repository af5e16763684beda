/-! Math.rint(D)D at a call -/
set_option maxRecDepth 100000
section ZN3
variable {p : Program} {l : Launch} {e : Env} {R : Room} {s : State} {m : MethodId} {args : Array Value} {below : List Frame} {meth : Method} {c : Code} {H : Heap} {locs : List Loc} {cells slots : Nat} {Q : State → Prop}
variable {cc : ByteArray} {nL pc : Nat} {ls : Array Slot} {rest : List Value} {D : zD} {M : zM} {own : String}
abbrev znf (mk : MethodId) (b : UInt64) : NFrame := { method := mk, args := #[.double b], stage := 1, saved := #[], awaiting := true, answer := none, words := 0 }
set_option maxHeartbeats 2000000 in
theorem z_rint {index : Nat} {b : UInt64} (hlt : l.stackTraces = false) (hC : zCx p s m args c cc nL own D) (hZ : zS D M H locs) (hml : ls.size = nL) (hv : zrintok b) (hlink : Cond.methodLink own index zmrint ∈ lw_all) (hrest : (rest.map fun v => v.category).sum ≤ 8) (hfr : 8 ≤ R.frames) (hlo : 1400 ≤ R.locals) (hkc : cells + 0 ≤ R.cells) (hks : slots + 0 ≤ R.slots) (hdg : decode cc pc = .ok (.invokestatic index, 3))
    (kk : ∀ (H1 : Heap) (locs1 : List Loc), zS D M H1 locs1 → W p l e R s m args below meth c H1 locs1 cells slots Q (F0 m (pc + 3) ls (.double (zrint b) :: rest))) : W p l e R s m args below meth c H locs cells slots Q (F0 m pc ls (.double b :: rest)) := by
  intro T hT X
  have hts := hC.ts
  have hcode' := hts _ q1682
  obtain ⟨mk, hnamed⟩ := Cond.code_named hcode'
  obtain ⟨methM, cM, hmethM, hcM, -, hmlM, -, hlM, -, hsigM⟩ := Cond.code_spec hnamed hcode'
  have hstatic : methM.isStatic = true := Cond.static_spec hnamed hmethM (hts _ q1681)
  obtain ⟨kP, hkP, hkname⟩ := className_of_methodNamed hnamed
  have hinitP : kP.init = .initialized := Cond.initialized_spec (findClass_of_methodNamed hnamed) hkP (hts _ q69)
  obtain ⟨hmn, hmd⟩ := name_of_methodNamed hnamed hmethM
  have hboot : kP.loader = none := Vm.bootOf_findClass (findClass_of_methodNamed hnamed) hkP
  have hdesc : parseMethodDescriptor "(D)D" = some { parameters := [.double], returnType := some .double } := by decide +kernel
  have hps : methM.sig.parameters.length = 1 := by
    have h9 : parseMethodDescriptor "(D)D" = some methM.sig := hsigM
    rw [hdesc] at h9
    rw [← Option.some.inj h9]
    rfl
  obtain ⟨vm₁, X₁, hstep₁⟩ := X.invokestatic hC.x hC.o (hts _ hlink) hnamed hmethM hstatic hkP hinitP (by decide) (g := F0 m pc ls (.double b :: rest)) rfl (argsL := [.double b]) (rest := rest) (by rw [hps]; rfl) rfl (by rw [hC.b]; exact hdg)
  obtain ⟨kV, hkV, heV⟩ := X₁.warmed.alike.2.2 _ _ hkP
  have hA := X₁.here
  have hW₁ := X₁.warmed
  have hxV : kV.methods[mk.idx]? = some methM := by
    have h9 : kP.methods[mk.idx]? = some methM := by simpa [Vm.method?, hkP] using hmethM
    rw [heV]; exact h9
  have hnV : kV.name = "java/lang/Math" := by rw [heV]; exact hkname
  have hbV : kV.loader = none := by rw [heV]; exact hboot
  have hHU : (T.setVm vm₁).heap = H := hT
  generalize hU : T.setVm vm₁ = U at *
  -- StrictMath.rint at U
  have hws : ∀ w ∈ ws_ yJ18_rint cJ18_rint 6 (some .double), ∀ (a' : Array Value) (V : State), s.WarmedH V.vm → w.before a' V = true := pay_in hts (lw_meth q1685)
  have hcS : (Cond.code yJ18_rint cJ18_rint 6 (some .double)).before #[.double b] U = true := hws _ List.mem_cons_self _ _ hW₁
  obtain ⟨mS, hnS⟩ := Cond.code_named hcS
  obtain ⟨methS, cSd, hmethS, hcodeS, -, hlocS, -, -, -, -⟩ := Cond.code_spec hnS hcS
  obtain ⟨kS, hkS, -⟩ := className_of_methodNamed hnS
  have hfS : U.vm.findClass "java/lang/StrictMath" = some mS.cls := findClass_of_methodNamed hnS
  have hiS : kS.init = .initialized := Cond.initialized_spec (args := #[.double b]) hfS hkS (word_at (a' := #[.double b]) hW₁ (good_of_word (w := Cond.initialized "java/lang/StrictMath") rfl) (hts _ q115))
  have hmS : kS.findMethod "rint" "(D)D" = some mS.idx := findMethod_of_methodNamed hnS hkS
  obtain ⟨g₀, hg⟩ := Option.isSome_iff_exists.mp hA.top
  obtain ⟨r, hr⟩ := State.topJava?_eq_some.mp hg
  obtain ⟨mid, hmid⟩ := hA.above
  have hcur : U.cur < U.threads.size := State.cur_lt_of_frames hr
  have htl : U.frames.tail = r := by rw [hr]; rfl
  obtain ⟨g, hgd⟩ : ∃ z, z = F0 m pc ls rest := ⟨_, rfl⟩
  have hgm : g.method = m := by rw [hgd]
  have hgs : g.stack = rest := by rw [hgd]
  have hgmr : g.monitorRoom = 0 := by rw [hgd]
  have hsz : g.locals.size = c.maxLocals := by rw [hgd]; exact hml.trans hC.ml.symm
  have hgp : g.pc = pc := by rw [hgd]
  have htopG : U.setTop g = U.setFrames (.java g :: r) := State.setTop_of_frames _ hr
  have hroomS : (U.calling g mS #[.double b]).hasRoom e.platform { frames := rm_J18_rint.frames + 1, locals := rm_J18_rint.locals + 1024, cells := 0, slots := 0 } = true :=
    X₁.room_calling hsz hmethS hcodeS (R' := { frames := rm_J18_rint.frames + 1, locals := rm_J18_rint.locals + 1024, cells := 0, slots := 0 }) (by show 1 + 1 + 1 ≤ R.frames; omega) (by rw [hlocS, hgmr, hgs]; show _ + (6 + 11) + (64 + 1024) ≤ R.locals; omega) hkc hks
  rw [State.calling_eq hA.top, htl] at hroomS
  have eFirst : (U.setFrames (.native (znf mk b) :: .java g :: r)).pushFrame (.invoking mS #[.double b]) = U.setFrames (.invoking mS #[.double b] :: .native (znf mk b) :: .java g :: r) := by
    rw [State.pushFrame, State.frames_setFrames _ hcur, State.setFrames_setFrames]
  have happ : (headSpec (ws_ yJ18_rint cJ18_rint 6 (some .double)) rm_J18_rint).appliesLoose yJ18_rint e.platform ((U.setFrames (.native (znf mk b) :: .java g :: r)).pushFrame (.invoking mS #[.double b])) = true := by
    rw [eFirst]
    refine (Spec.appliesLoose_iff (State.frames_setFrames _ hcur)).mpr ⟨hA.running, by simpa using hA.runnable, by simpa using hA.alone, hnS, rfl, State.classRipe_of (s := U.setFrames _) hkS hiS, z_roomN hcur (Nat.zero_le _) hroomS, ?_⟩
    rw [Cond.before_setFrames]
    exact atoms_intro fun w hw => hws w hw _ _ hW₁
  have hPc : zPc D [.double b] M #[.double b] ((U.setFrames (.native (znf mk b) :: .java g :: r)).pushFrame (.invoking mS #[.double b])) := by
    rw [eFirst]
    refine ⟨rfl, ?_, zK_same (s := U) rfl (zK_warm hW₁ hC.K)⟩
    show zH D M U.heap
    rw [hHU]; exact hZ.1
  have hM : vx_Met l yJ18_rint (ws_ yJ18_rint cJ18_rint 6 (some .double)) rm_J18_rint (zPc D [.double b] M) (zQ D zDb (fun r9 M1 => r9 = zrint b ∧ M1 = M)) (zX D (fun _ _ => False)) 0 0 (zA D) := w_J18_rint hlt (zrint_wp hv)
  obtain ⟨acts₂, hr2⟩ := zrrint_run b e (U.setFrames (.native { method := mk, args := #[.double b] } :: .java g :: r)) (cS := mS.cls) (kS := kS) (i := mS.idx) hfS hkS hiS hmS
  have hfN : (U.setFrames (.native (znf mk b) :: .java g :: r)).frames = (.native (znf mk b) :: .java g :: mid) ++ below := by rw [State.frames_setFrames _ hcur, ← htl, hmid]; rfl
  obtain ⟨o, s₂, hsteps, hrun2, hend, hq⟩ := Steps.callFree hM p X₁.admits X₁.cas X₁.clock (s := U.setFrames (.native (znf mk b) :: .java g :: r)) (m := mS) (args := #[.double b]) (acts := acts₂) hfN happ hPc trivial
  rcases hq with ⟨⟨r9, M', ho, ⟨hr9, hM9⟩, hH9⟩, L, hfe, hL⟩ | ⟨q, ho, E, ce, L, ⟨M', ci, fs, T9, N9, -, -, -, hf9, -⟩, -⟩
  rotate_left
  · exact hf9.elim
  subst ho hr9 hM9
  rw [State.frames_setFrames _ hcur] at hend
  obtain ⟨nf2, hnf2⟩ : ∃ z : NFrame, z = { method := mk, args := #[.double b], stage := 1, saved := #[], awaiting := false, answer := some (.returned (some (.double (zrint b)))), words := 0 } := ⟨_, rfl⟩
  replace hend : s₂.frames = .native nf2 :: .java g :: r := by rw [hnf2]; exact hend
  obtain ⟨-, hW', e2, q2, q3, q4, q5, q6⟩ := id hfe
  replace hW' : U.WarmedH s₂.vm := hW'
  have e3 : s₂ = ({ U.setFrames s₂.frames with heap := s₂.heap, slotsUsed := s₂.slotsUsed } : State).setVm s₂.vm := by
    have h1 : s₂ = ({ s₂ with vm := ((U.setFrames (.native (znf mk b) :: .java g :: r)).pushFrame (.invoking mS #[.double b])).vm } : State).setVm s₂.vm := rfl
    rw [e2, eFirst, State.setFrames_setFrames] at h1
    exact h1
  obtain ⟨V, hV⟩ : ∃ z : State, z = ({ U with heap := s₂.heap, slotsUsed := s₂.slotsUsed } : State).setVm s₂.vm := ⟨_, rfl⟩
  have hrV : V.frames = .java g₀ :: r := by rw [hV]; exact hr
  have e4 : ∀ G : List Frame, s₂.setFrames G = V.setFrames G := fun G => by
    have h1 : ∀ F : List Frame, (({ U.setFrames F with heap := s₂.heap, slotsUsed := s₂.slotsUsed } : State).setVm s₂.vm).setFrames G = V.setFrames G := fun F => by
      rw [hV]
      show ({ (U.setFrames F).setFrames G with heap := s₂.heap, slotsUsed := s₂.slotsUsed } : State).setVm s₂.vm = _
      rw [State.setFrames_setFrames]
      rfl
    have h2 := congrArg (fun z : State => z.setFrames G) e3
    exact h2.trans (h1 _)
  have hsame : U.sameButNew ({ U with heap := s₂.heap, slotsUsed := s₂.slotsUsed } : State) L 0 0 := by
    refine ⟨?_, q2, q3, q4, q5, q6⟩
    obtain ⟨t, ht, -⟩ := State.frames_cons hr
    show ({ U with heap := s₂.heap, slotsUsed := s₂.slotsUsed } : State) = { U.setFrames U.frames with heap := s₂.heap, slotsUsed := s₂.slotsUsed }
    rw [State.setFrames_self ht]
  have X' : Stand p l e R s m args below meth c V (locs ++ L) (cells + 0) (slots + 0) := by
    rw [hV]
    exact ⟨X₁.admits, X₁.cas, X₁.clock, X₁.frames, X₁.room, X₁.hears, X₁.method, X₁.code, (X₁.here.setHeapUsed s₂.heap s₂.slotsUsed).setVm hW'.alike, X₁.tail, State.WarmedH.trans X₁.warmed hW', X₁.limits, X₁.bytes, X₁.same.trans (hsame.setVm s.vm)⟩
  have hHV : V.heap = s₂.heap := by rw [hV]; rfl
  obtain ⟨t, a1, b1⟩ := kk s₂.heap (locs ++ L) ⟨hH9, fun x hx => (List.mem_append.mp hx).elim (hZ.2 x) (hL x)⟩ V hHV X'
  refine ⟨t, hstep₁ _ fun acts => ?_, b1⟩
  have hm : (U.setTop (F0 m pc ls rest)).vm.method? mk = some methM := by
    show U.vm.method? mk = some methM
    simp [Vm.method?, hkV, hxV]
  have hroom := X₁.notFull (g := F0 m pc ls rest) (hml.trans hC.ml.symm) (vars := cM.maxLocals) (by omega) (by rw [hmlM]; show 2 * 0 + (rest.map fun v => v.category).sum + (2 + 11) ≤ R.locals; omega)
  rw [(doInvoke_java (s := U.setTop (F0 m pc ls rest)) (e := e) (acts := acts) (args := #[.double b]) hm hcM hlM hroom).1]
  have hfe2 := frames_entered (g := F0 m pc ls rest) hA.top (.java { method := mk, pc := 0, locals := argsToLocals #[.double b] cM.maxLocals, stack := [], locked := none })
  refine Steps.head ⟨hA.running, by simpa using hA.runnable, by simpa using hA.alone⟩
    ⟨.java { method := mk, pc := 0, locals := argsToLocals #[.double b] cM.maxLocals, stack := [], locked := none } :: .java (F0 m pc ls rest) :: mid, by rw [hfe2, hmid]; rfl, by simp, by simp⟩ ?_
  rw [z_stepOv (f := { method := mk, pc := 0, locals := argsToLocals #[.double b] cM.maxLocals, stack := [], locked := none }) (k := kV) (x := methM) (row := zrrint) hfe2 rfl hkV hxV (by rw [hnV]; decide) hbV (by rw [hnV, hmn, hmd]; exact zrrint_row p)]
  have hgv : zgiven (argsToLocals #[.double b] cM.maxLocals) (methM.sig.parameters.length + (if methM.isStatic then 0 else 1)) = #[.double b] := by
    rw [hstatic, hmlM, hps]
    rfl
  simp only [hgv]
  have hS : ((U.setTop (F0 m pc ls rest)).pushFrame (.java { method := mk, pc := 0, locals := argsToLocals #[.double b] cM.maxLocals, stack := [], locked := none })).setFrames (.native { method := mk, args := #[.double b], locked := none } :: .java (F0 m pc ls rest) :: U.frames.tail)
      = U.setFrames (.native { method := mk, args := #[.double b], locked := none } :: .java g :: r) := by
    rw [State.pushFrame, State.setFrames_setFrames, State.setTop_of_frames _ hr, State.setFrames_setFrames, htl, hgd]
  have hw3 : ((U.vm.classes[mk.cls]?).bind fun k => Option.map (fun n => upcallWords k.name n.name) k.methods[mk.idx]?).getD 0 = 0 := by simp [hkV, hxV, hnV, hmn, zmrint, upcallWords]
  have hst : (afterNative e { method := mk, args := #[.double b], locked := none } (.java g :: r) (.ctl (.call ⟨mS.cls, mS.idx⟩ #[.double b] 1 #[]) (U.setFrames (.native { method := mk, args := #[.double b], locked := none } :: .java g :: r)) acts₂)).1 = (doInvoke e (U.setFrames (.native (znf mk b) :: .java g :: r)) acts₂ mS #[.double b]).1 := by
    simp [afterNative, hw3, State.setFrames_setFrames, znf]
  rw [hS, hr2, htl, ← hgd, hst]
  refine hsteps.trans ?_
  obtain ⟨k', hk', ek⟩ := hW'.alike.2.2 _ _ hkV
  obtain ⟨acts₃, hr3⟩ := zrrint_resume hv.2.2.2.2 e s₂
  have hcode2 : s₂.code? g.method = some c := by
    have h1 : s₂.code? g.method = U.code? g.method := by rw [State.code?_eq, State.code?_eq, hW'.alike.method?]
    rw [h1, hgm]; exact hA.code
  have hdg' : decode c.code g.pc = .ok (.invokestatic index, 3) := by rw [hC.b, hgp]; exact hdg
  have hfs : handOver s₂ (some (.double (zrint b))) (.java g :: r) = some (.java (F0 m (pc + 3) ls (.double (zrint b) :: rest)) :: r) := by
    simp [handOver, hcode2, hdg', Except.toOption]
    rw [hgd]
    exact ⟨rfl, rfl, rfl, rfl, rfl, rfl, rfl⟩
  have hstep4 : (stepThread p.tables e s₂).1 = s₂.setFrames (.java (F0 m (pc + 3) ls (.double (zrint b) :: rest)) :: r) := by
    rw [z_stepRe (f := nf2) (o := .returned (some (.double (zrint b)))) hend (by rw [hnf2]; exact hk') (by rw [ek]; exact hbV) (by rw [hnf2, ek]; exact hxV) (by rw [ek, hnV, hmn, hmd]; exact zrrint_row p) (by rw [hnf2])]
    show (afterNative e _ _ ((zrrint.resume nf2.stage nf2.saved (.returned (some (.double (zrint b))))).run e s₂)).1 = _
    rw [hnf2]
    show (afterNative e _ _ ((zrrint.resume 1 #[] (.returned (some (.double (zrint b))))).run e s₂)).1 = _
    rw [hr3]
    exact doReturn_native (f := { method := mk, args := #[.double b], stage := 1, saved := #[], awaiting := false, answer := some (.returned (some (.double (zrint b)))), words := 0 }) (by rw [hend, hnf2]) rfl hfs
  have hcs : s₂.curStatus? = some .runnable := by
    have h1 : s₂.curStatus? = ({ s₂ with vm := ((U.setFrames (.native (znf mk b) :: .java g :: r)).pushFrame (.invoking mS #[.double b])).vm } : State).curStatus? := rfl
    rw [h1, e2]
    show (((U.setFrames (.native (znf mk b) :: .java g :: r)).pushFrame (.invoking mS #[.double b])).setFrames _).curStatus? = _
    simpa [State.pushFrame] using hA.runnable
  have hal2 : s₂.alone = true := by
    have h1 : s₂.alone = ({ s₂ with vm := ((U.setFrames (.native (znf mk b) :: .java g :: r)).pushFrame (.invoking mS #[.double b])).vm } : State).alone := rfl
    rw [h1, e2]
    show (((U.setFrames (.native (znf mk b) :: .java g :: r)).pushFrame (.invoking mS #[.double b])).setFrames _).alone = _
    simpa [State.pushFrame] using hA.alone
  refine Steps.head ⟨hrun2, hcs, hal2⟩ ⟨.native nf2 :: .java g :: mid, by rw [hend, ← htl, hmid]; rfl, by simp, by simp⟩ ?_
  rw [hstep4, e4, ← State.setTop_of_frames _ hrV]
  exact a1
end ZN3
