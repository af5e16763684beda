/-! Math.rint(D)D: its entry calls StrictMath.rint -/
set_option maxRecDepth 100000
def zrint1 (a : UInt64) : UInt64 := if 0 ≤ (Op.cmpValue (FP.dcmp (a &&& 0x7fffffffffffffff) (4841369599423283200 : UInt64)) .g) then a &&& 0x7fffffffffffffff else FP.dsub (FP.dadd (4841369599423283200 : UInt64) (a &&& 0x7fffffffffffffff)) (4841369599423283200 : UInt64)
def zrint (a : UInt64) : UInt64 := FP.dmul (zcps FP.dconst1 a) (zrint1 a)
def zrintok (a : UInt64) : Prop := FP.dIsNaN a = false ∧ a &&& 0x7fffffffffffffff ≤ 0x7ff0000000000000 ∧ (¬ 0 ≤ (Op.cmpValue (FP.dcmp (a &&& 0x7fffffffffffffff) (4841369599423283200 : UInt64)) .g) → vf_n64 (FP.dadd (4841369599423283200 : UInt64) (a &&& 0x7fffffffffffffff)) ∧ vf_n64 (FP.dsub (FP.dadd (4841369599423283200 : UInt64) (a &&& 0x7fffffffffffffff)) (4841369599423283200 : UInt64))) ∧ vf_n64 (zrint a) ∧ zrint a &&& 0x7fffffffffffffff ≤ 0x7ff0000000000000
theorem zrint_wp {D : zD} {M : zM} {a : UInt64} (h : zrintok a) : wp_J18_rint D (fun r M1 => r = zrint a ∧ M1 = M) a M := by
  obtain ⟨h1, h2, h3, h4, -⟩ := h
  unfold wp_J18_rint
  refine ⟨h1, h2, fun hc => ?_, fun hc => ?_⟩
  · have e : zrint a = FP.dmul (zcps FP.dconst1 a) (a &&& 0x7fffffffffffffff) := by unfold zrint zrint1; rw [if_pos hc]
    unfold wp_J18_rint_L28
    rw [e] at h4 ⊢
    exact ⟨h4, rfl, rfl⟩
  · have e : zrint a = FP.dmul (zcps FP.dconst1 a) (FP.dsub (FP.dadd (4841369599423283200 : UInt64) (a &&& 0x7fffffffffffffff)) (4841369599423283200 : UInt64)) := by unfold zrint zrint1; rw [if_neg hc]
    refine ⟨(h3 hc).1, (h3 hc).2, ?_⟩
    unfold wp_J18_rint_L28
    rw [e] at h4 ⊢
    exact ⟨h4, rfl, rfl⟩
def zmrint : MethodName := ⟨"java/lang/Math", "rint", "(D)D"⟩
def zrrint : NativeRow := (NativeRow.find? Native.java_lang_Math.nans.rows "java/lang/Math" "rint" "(D)D").get (by decide +kernel)
theorem zrrint_row (p : Program) : NativeRow.find? p.tables.natives "java/lang/Math" "rint" "(D)D" = some zrrint := by
  cases p <;> rfl
theorem zrrint_run (b : UInt64) (e : Env) (S : State) {cS : ClassId} {kS : Class} {i : Nat} (hf : S.vm.findClass "java/lang/StrictMath" = some cS) (hk : S.vm.classes[cS]? = some kS) (hi : kS.init = .initialized) (hm : kS.findMethod "rint" "(D)D" = some i) :
    ∃ acts, (zrrint.sem #[.double b]).run e S = .ctl (.call ⟨cS, i⟩ #[.double b] 1 #[]) S acts := by
  have hsem : zrrint.sem #[.double b] = (do
      let c ← classNamed "java/lang/StrictMath"
      ensureInit c
      let some i := (← theClass c).findMethod "rint" "(D)D" | modelBug ("StrictMath lacks " ++ "rint")
      callThen ⟨c, i⟩ #[.double b] 1 #[]) := rfl
  have hw : wpRun (zrrint.sem #[.double b]) (fun _ _ _ => False) (fun c s₂ _ => c = .call ⟨cS, i⟩ #[.double b] 1 #[] ∧ s₂ = S) e S := by
    rw [hsem]
    simp [jvm, wpRun, W.classNamed_ready hf, W.ensureInit_ready ⟨kS, hk, hi⟩, theClass, callThen, hk, hm]
    exact ⟨rfl, rfl, rfl, rfl⟩
  have hw' := (wpRun_iff_run _ _ _ _ _).mp hw
  cases hr : (zrrint.sem #[.double b]).run e S with
  | ok v s₂ acts₂ => rw [hr] at hw'; exact hw'.elim
  | ctl x s₂ acts₂ =>
    rw [hr] at hw'
    have h2 : x = .call ⟨cS, i⟩ #[.double b] 1 #[] ∧ s₂ = S := by cases x <;> first | exact hw' | exact hw'.elim
    obtain ⟨rfl, rfl⟩ := h2
    exact ⟨_, rfl⟩
theorem zrrint_resume {r : UInt64} (hn : r &&& 0x7fffffffffffffff ≤ 0x7ff0000000000000) (e : Env) (S : State) :
    ∃ acts, (zrrint.resume 1 #[] (.returned (some (.double r)))).run e S = .ok (some (.double r)) S acts := by
  have hsem : zrrint.resume 1 #[] (.returned (some (.double r))) = (do
      let r ← anyNaN64 r
      mark "nat.java_lang_Math.rint"
      Pure.pure (some (.double r))) := rfl
  have hw : wpRun (zrrint.resume 1 #[] (.returned (some (.double r)))) (fun v s₂ _ => v = some (.double r) ∧ s₂ = S) (fun _ _ _ => False) e S := by
    rw [hsem]
    simp [jvm, wpRun, anyNaN64, hn]
  have hw' := (wpRun_iff_run _ _ _ _ _).mp hw
  cases hr : (zrrint.resume 1 #[] (.returned (some (.double r)))).run e S with
  | ok v s₂ acts₂ => rw [hr] at hw'; obtain ⟨rfl, rfl⟩ := hw'; exact ⟨_, rfl⟩
  | ctl x s₂ acts₂ => rw [hr] at hw'; cases x <;> exact hw'.elim
theorem z_stepRe {tb : Tables} {e : Env} {s : State} {f : NFrame} {rest : List Frame} {k : Class} {x : Method} {row : NativeRow} {o : Outcome}
    (hf : s.frames = .native f :: rest) (hk : s.vm.classes[f.method.cls]? = some k) (hboot : k.loader = none) (hx : k.methods[f.method.idx]? = some x)
    (hrow : NativeRow.find? tb.natives k.name x.name x.desc = some row) (ha : f.answer = some o) :
    stepThread tb e s = afterNative e f rest ((row.resume f.stage f.saved o).run e s) := by
  unfold stepThread
  simp only [hf, hk, hx, hrow, ha, hboot, Option.bind_eq_bind, Option.bind_some, Option.pure_def, Option.isNone_none, if_true]
theorem z_sb (s : State) (F : List Frame) : (s.setFrames F).me.stackBytes = s.me.stackBytes := by
  unfold State.me State.setFrames
  simp only [Array.getElem?_modify]
  cases s.threads[s.cur]? <;> simp
/-- room under a native's frame -/
theorem z_roomN {s : State} {pl : Platform} {m : MethodId} {a : Array Value} {nf : NFrame} {g : JFrame} {r : List Frame} {F L C Sl : Nat} (hcur : s.cur < s.threads.size) (hw : nf.words ≤ 1024)
    (h : (s.setFrames (.invoking m a :: .java g :: r)).hasRoom pl { frames := F + 1, locals := L + 1024, cells := C, slots := Sl } = true) :
    (s.setFrames (.invoking m a :: .native nf :: .java g :: r)).hasRoom pl { frames := F, locals := L, cells := C, slots := Sl } = true := by
  have hwt : Frame.weight (.native nf) = 1024 := by show max nf.words vmFrameWords = 1024; unfold vmFrameWords; omega
  simp only [State.hasRoom, Bool.and_eq_true, decide_eq_true_eq, State.frames_setFrames _ hcur, State.stackLimits_setFrames, z_sb, State.localsInUse, stackWeight, List.map_cons, List.sum_cons, List.length_cons, hwt] at h ⊢
  obtain ⟨⟨⟨⟨a0, a1, a2, a3, a4, a5⟩, b1⟩, c1⟩, d1⟩ := h
  have e : (s.setFrames (.invoking m a :: .native nf :: .java g :: r)).vm = (s.setFrames (.invoking m a :: .java g :: r)).vm := rfl
  refine ⟨⟨⟨⟨?_, by omega, by omega, ?_, ?_, a5⟩, b1⟩, c1⟩, d1⟩
  · rw [e]; omega
  · rw [e]; omega
  · rw [e]; omega
