/-! Z-WP 3: overriding methods with tables of their own, the interface's default method, natives -/
set_option maxRecDepth 100000
theorem zfc {α : Type} {x x' : α} {f : α → Bool} {L L' : List α} (hx : x = x') (h : L.filter f = L') : x :: L.filter f = x' :: L' := by rw [hx, h]
theorem zfk {α : Type} {x : α} {f : α → Bool} {L L' : List α} (hx : f x = true) (h : L.filter f = L') : (x :: L).filter f = x :: L' := by rw [List.filter_cons, hx, h]; rfl
theorem zfd {α : Type} {x : α} {f : α → Bool} {L L' : List α} (hx : f x = false) (h : L.filter f = L') : (x :: L).filter f = L' := by rw [List.filter_cons, hx, h]; rfl
theorem zfa {i k : Nat} {r : Option Nat} (h : (i == k) = false) : (fun q : Nat × Value => !(q.1 == k) && !(q.1 + 1 == k && q.2.category == 2)) (i, va_rf r) = true := by
  show (!(i == k) && !(i + 1 == k && (va_rf r).category == 2)) = true
  rw [zcat, h]
  simp
/-- a method of a class that has natives' entries, for which there is no row -/
theorem z_ofWFv {l : Launch} {y : MethodName} {ws ws' : List Cond} {rm : Room} {Pc : Array Value → State → Prop} {Qc : Array Value → State → Outcome → State → Prop} {XC : String → Addr → State → State → Prop} {mc ms : Nat} {free : Addr → Prop} {cc : ByteArray} {maxL : Nat} {ret : Option FieldType}
    (hy : plainFor y = true) (hw : ws = Cond.code y cc maxL ret :: ws')
    (body : ∀ p e s m args below meth c s₁, BodyLoose p l y (headSpec ws rm) cc maxL ret e s m args below meth c s₁ → c.maxLocals = maxL → (∀ x ∈ c.exceptionTable.toList, False) → Pc args s →
      W p l e (headSpec ws rm).room s m args below meth c s.heap [] 0 0 (vx_MQ below Qc XC args s mc ms free) (entryFrame m args maxL)) : vx_Met l y ws rm Pc Qc XC mc ms free := by
  refine MetFree.of_bodySF (code := cc) (maxLocals := maxL) (ret := ret) hy ?_ ?_
  · intro args s m h hn
    obtain ⟨meth, c, h1, h2, h3, h4, h5, h6, -, -⟩ := Cond.code_spec hn (atoms_spec (ws := ws) h _ (by rw [hw]; exact List.mem_cons_self))
    exact ⟨meth, c, h1, h2, h3, h4, h5, h6⟩
  · intro p e s m args below meth c s₁ B hml hP _
    have hh0 : s₁.heap = s.heap := by rw [B.state]; rfl
    have ht : ∀ x ∈ c.exceptionTable.toList, False := by
      obtain ⟨meth9, c9, h1, h2, -, -, -, -, h7, -⟩ := Cond.code_spec B.named (atoms_spec (ws := ws) B.pre _ (by rw [hw]; exact List.mem_cons_self))
      cases Option.some.inj (h1.symm.trans B.method)
      cases Option.some.inj (h2.symm.trans (Stand.of_body B).code)
      intro x hx
      rw [Array.isEmpty_iff.mp h7] at hx
      cases hx
    obtain ⟨t, a1, o, b1, b2, b3⟩ := body p e s m args below meth c s₁ B hml ht hP s₁ hh0 (Stand.of_body B)
    exact ⟨t, o, a1, b1, b2, b3⟩
theorem z_ofWF {l : Launch} {D : zD} {M : zM} {α : Type} {y : MethodName} {cc : ByteArray} {maxL : Nat} {ret : Option FieldType} {rm : Room} {mc ms : Nat} {av : List Value} {inj : α → Option Value} {post : α → zM → Prop} {xp : Nat → zM → Prop} {lv : List (Nat × Value)} (hl : l.stackTraces = false) (hy : plainFor y = true) (hlen : (lg_sl av).length ≤ maxL) (hlv : lv_args 0 av = lv)
    (body : ∀ (p : Program) (e : Env) (s : State) (m : MethodId) (args : Array Value) (below : List Frame) (meth : Method) (c : Code) (ls : Array Slot), zGx p l s m args meth c cc maxL y.cls D ret y.name [] → zS D M s.heap [] → lv_has ls maxL lv → W p l e rm s m args below meth c s.heap [] 0 0 (vx_MQ below (zQ D inj post) (zX D xp) args s mc ms (zA D)) (F0 m 0 ls [])) : zMet l D y (ws_ y cc maxL ret) rm mc ms av M inj post xp := by
  refine z_ofWFv (cc := cc) (maxL := maxL) (ret := ret) hy rfl ?_
  intro p e s m args below meth c s₁ B hml htb hv
  obtain ⟨rfl, hH, hK⟩ := hv
  have hts := atoms_spec (ws := ws_ y cc maxL ret) B.pre
  rw [lg_entry_eq]
  refine body p e s m _ below meth c _ ⟨⟨B.exec, B.bytes, hml, findClass_of_methodNamed B.named, fun w h => hts w (List.mem_cons_of_mem _ h), hK⟩, B.returns, B.notSynchronized, (name_of_methodNamed B.named B.method).1, ?_, hl⟩ ⟨hH, fun x hx => by cases hx⟩ (by rw [← hlv]; exact lv_entry av hlen)
  cases htl : c.exceptionTable.toList with
  | nil => rfl
  | cons x xs => exact absurd (htb x (by rw [htl]; exact List.mem_cons_self)) (fun h => h)
section ZV
variable {p : Program} {l : Launch} {e : Env} {R : Room} {s : State} {m : MethodId} {args : Array Value} {below : List Frame} {meth : Method} {c : Code} {H : Heap} {locs : List Loc} {cells slots : Nat} {Q : State → Prop}
variable {cc : ByteArray} {nL pc : Nat} {ls : Array Slot} {rest st : List Value} {D : zD} {M : zM} {own : String} {a : Nat} {ret : Option FieldType} {nm : String} {tb : List ExceptionTableEntry}
theorem z_callUX {T : State} {locs : List Loc} {cells slots : Nat} (X : Stand p l e R s m args below meth c T locs cells slots) (hexec : p.tables.exec = Jvm.exec) {own C owner : String} {index : Nat} {x y : MethodName} {bytes : ByteArray} {maxL : Nat} {ret : Option FieldType} {hh : List (Nat × Nat × Nat × Nat)}
    (hown : s.vm.findClass own = some m.cls) (hlink : (Cond.methodLink own index x).before args s = true) (hsame : (Cond.sameMethod x.cls owner x.name x.desc).before args s = true)
    (hd0 : va_Decl s ⟨owner, x.name, x.desc⟩) (howner : owner ≠ "java/lang/invoke/MethodHandle" ∧ owner ≠ "java/lang/invoke/VarHandle")
    (hsel : (Cond.selects C x y).before args s = true) (hinst : (Cond.instanceMethod y).before args s = true) (hcode : (Cond.codeWith y bytes maxL ret hh).before args s = true)
    {W : Nat} {Pre : Pt → Array Value → Prop} {Post : Pt → Array Value → Option Value → Pt → Prop} {PostX : Pt → Array Value → Addr → Pt → Prop} (hK : vx_Back l R p e below s args y 3 W Pre Post PostX)
    {b : Addr} {cellB : Cell} (hcell : T.heap[b]? = some cellB) (hobj : cellB.vm.isStatics = false) (hcls : s.vm.findClass C = some cellB.cls)
    {g : JFrame} (hg : g.method = m) (hsize : g.locals.size = c.maxLocals) {argsL rest : List Value} (hlen : ∀ sig, parseMethodDescriptor x.desc = some sig → argsL.length = sig.parameters.length)
    (hstack : g.stack = argsL.reverse ++ .ref b :: rest) (hW : 2 * g.monitorRoom + (rest.map fun v => v.category).sum ≤ W) (hdg : decode c.code g.pc = .ok (.invokevirtual index, 3))
    (hpre : ∀ vm₁, s.WarmedH vm₁ → Pre ⟨T.setVm vm₁, locs, cells, slots⟩ (Value.ref b :: argsL).toArray) :
    (∃ (v : Option Value) (vm₁ : Vm) (B : Pt), s.WarmedH vm₁ ∧ Stand p l e R s m args below meth c B.U B.locs B.cells B.slots ∧ Post ⟨T.setVm vm₁, locs, cells, slots⟩ (Value.ref b :: argsL).toArray v B ∧
      ∀ target, Steps p.tables e below (B.U.setTop { g with pc := g.pc + 3, stack := v.toList ++ rest }) target → Steps p.tables e below (T.setTop g) target) ∨
    (∃ (q : Addr) (vm₁ : Vm) (B : Pt), s.WarmedH vm₁ ∧ Stand p l e R s m args below meth c B.U B.locs B.cells B.slots ∧ PostX ⟨T.setVm vm₁, locs, cells, slots⟩ (Value.ref b :: argsL).toArray q B ∧
      Steps p.tables e below (T.setTop g) ((B.U.setTop { g with stack := rest }).pushFrame (.throwing q))) := by
  obtain ⟨r0, r, hn, hrm, hstR, hsigR⟩ := hd0
  obtain ⟨cn, ck, r1, hcn, hck, hni, hf, hn1⟩ := Cond.sameMethod_found hsame
  cases hn.symm.trans hn1
  obtain ⟨mk, methM, hnamed, hmethM, -, habM⟩ := Cond.instanceMethod_spec hinst
  obtain ⟨c2, r2, m2, q1, q2, q3, q4, kP, hkP, hkPi⟩ := Cond.selects_spec hsel
  cases hcls.symm.trans q1
  cases hf.symm.trans q2
  cases hnamed.symm.trans q3
  have hselP : selectMethod e.platform s.vm cellB.cls r0 = .method mk := by rw [Launch.admits_selectMethod X.admits]; exact q4
  obtain ⟨vm₁, X₁, hstep₁⟩ := X.invokevirtualUp hexec hown hlink hsame howner hn hrm hstR (a := b) (cell := cellB) hcell
    (fun z h => by rw [h] at hobj; cases hobj) hselP hmethM habM hkP hkPi (g := g) hg (argsL := argsL) (rest := rest) (hlen _ hsigR) hstack hdg
  rcases hK m meth c ⟨T.setVm vm₁, locs, cells, slots⟩ { g with stack := rest } (.invokevirtual index) mk (Value.ref b :: argsL).toArray X₁ hg hsize hdg hW (X₁.named hnamed) (hpre vm₁ X₁.warmed) with ⟨v, B, X', hpost, hsteps⟩ | ⟨q, B, X', hpost, hsteps⟩
  · exact Or.inl ⟨v, vm₁, B, X₁.warmed, X', hpost, fun target h => hstep₁ _ fun acts => by rw [doInvoke_state]; exact hsteps.trans h⟩
  · exact Or.inr ⟨q, vm₁, B, X₁.warmed, X', hpost, hstep₁ _ fun acts => by rw [doInvoke_state]; exact hsteps⟩
theorem z_runUX {x y : MethodName} {bytes cc : ByteArray} {maxL nL mc ms index : Nat} {ret : Option FieldType} {hh : List (Nat × Nat × Nat × Nat)} {ws ws' : List Cond} {rm : Room} {Pc : Array Value → State → Prop} {Qc : Array Value → State → Outcome → State → Prop} {XC : String → Addr → State → State → Prop} {free : Addr → Prop} {Ts : List Cond} {own C owner : String} {b : Addr} {As rest : List Value} {g : JFrame}
    (S : CallFix p m c cc nL s args Ts own) (hM : vx_Met l y ws rm Pc Qc XC mc ms free) (n : Nat) (ht : ∀ w ∈ Ts, w.before args s = true) (hT : GoodIn Ts (va_wsU own index C owner x y ws)) (hw : ws = Cond.codeWith y bytes maxL ret hh :: ws') (hrc : rm.cells = mc) (hrs : rm.slots = ms)
    (hz : va_Nw (.declares ⟨owner, x.name, x.desc⟩) s) (hd : owner ≠ "java/lang/invoke/MethodHandle" ∧ owner ≠ "java/lang/invoke/VarHandle" ∧ (parseMethodDescriptor x.desc).map (fun d => d.parameters.length) = some n) (hR : rm.frames + 1 ≤ R.frames ∧ 8 + (maxL + 11) + rm.locals ≤ R.locals) (hp : PreV s H C b Pc As)
    (hg : g.method = m) (hn : As.length = n) (hsize : g.locals.size = nL) (hstack : g.stack = As.reverse ++ .ref b :: rest) (hW : 2 * g.monitorRoom + (rest.map fun v => v.category).sum ≤ 8) (hdg : decode cc g.pc = .ok (.invokevirtual index, 3)) (hf : cells + mc ≤ R.cells ∧ slots + ms ≤ R.slots) :
    vx_Run p l e R s m args below meth c H locs cells slots mc ms g rest (Qc (Value.ref b :: As).toArray) XC free := by
  have ok : ∀ w ∈ va_wsU own index C owner x y ws, w.before args s = true := fun w h => ht w (hT w h).1
  have hG : GoodIn Ts ws := fun w h => hT w (by unfold va_wsU; exact List.mem_append_right _ h)
  have hcw : Cond.codeWith y bytes maxL ret hh ∈ ws := by rw [hw]; exact List.mem_cons_self
  have hlen : ∀ sig, parseMethodDescriptor x.desc = some sig → n = sig.parameters.length := fun sig h => by
    have h2 := hd.2.2
    rw [h] at h2
    exact (Option.some.inj h2).symm
  have hini : (Cond.initialized y.cls).before args s = true := ok _ (by simp [va_wsU])
  have hK : vx_Back l R p e below s args y 3 8 (PreOf R mc ms Pc) (PostOf Qc mc ms free) (vx_Post XC mc ms free) := vx_backW (hh := hh) (bytes := bytes) (maxL := maxL) (ret := ret) hM hp.1 hrc hrs hR.1 hR.2 (pay_in ht hG) hcw (fun a' U hW => word_at hW (Or.inl (by first | rfl | simp [Cond.onTables, Cond.keeps, Cond.steady])) hini)
  obtain ⟨hx, hb, hml, ho, -⟩ := S
  obtain ⟨-, ⟨cellB, hcB, hoB, hclB⟩, hPc⟩ := hp
  intro T hT X
  rcases z_callUX X hx (C := C) (owner := owner) (index := index) (x := x) (hh := hh) (bytes := bytes) (maxL := maxL) (ret := ret) ho (ok _ (by simp [va_wsU])) (ok _ (by simp [va_wsU])) (va_Decl.abs hz) ⟨hd.1, hd.2.1⟩ (ok _ (by simp [va_wsU])) (ok _ (by simp [va_wsU])) (ht _ (hG _ hcw).1) hK (by rw [hT]; exact hcB) hoB hclB hg (hsize.trans hml.symm) (argsL := As) (rest := rest) (fun sig h => hn.trans (hlen sig h)) hstack hW (by rw [hb]; exact hdg)
    (fun vm₁ hW₁ => ⟨hf.1, hf.2, hPc (T.setVm vm₁) hT hW₁⟩) with ⟨v, vm₁, ⟨U', l2, c2, s2⟩, hW₁, X', ⟨g', mk, t, L, e1, e2, hq, h1, hL, h2, h3⟩, st⟩ | ⟨q, vm₁, ⟨U', l2, c2, s2⟩, hW₁, X', ⟨g', mk, t, L, E, ce, e1, e2, hq, hce, hcv, hcl, h1, hL, h2, h3⟩, st⟩
  · dsimp only [Pt.U, Pt.locs, Pt.cells, Pt.slots] at X' e1 e2 h1 h2 h3 st
    subst h1; subst h2; subst h3
    exact Or.inl ⟨v, (T.setVm vm₁).calling g' mk (Value.ref b :: As).toArray, t, U', L, hT, X', hL, e1, e2, hq, st⟩
  · dsimp only [Pt.U, Pt.locs, Pt.cells, Pt.slots] at X' e1 e2 h1 h2 h3 st hcl
    subst h1; subst h2; subst h3
    exact Or.inr ⟨q, (T.setVm vm₁).calling g' mk (Value.ref b :: As).toArray, t, U', L, E, ce, hT, X', hL, e1, e2, hq, hce, hcv, vx_cls hW₁ hcl, st⟩
/-- the default method of Thing -/
theorem z_callDef {T : State} (X : Stand p l e R s m args below meth c T locs cells slots) (hexec : p.tables.exec = Jvm.exec) {own C : String} {index count : Nat} {x y : MethodName}
    (hown : s.vm.findClass own = some m.cls) (hlink : (Cond.methodLink own index x).before args s = true) (hdecl : (Cond.declares x).before args s = true) (hface : (Cond.interfaceMethod x.cls x.cls x.name x.desc).before args s = true)
    (hsel : (Cond.landsInDefault C x y).before args s = true) (hinst : (Cond.instanceMethod y).before args s = true) (hpub : (Cond.publicMethod y).before args s = true)
    (hcast : (Cond.castable C x.cls).before args s = true) (hx : x.cls ≠ "java/lang/invoke/MethodHandle" ∧ x.cls ≠ "java/lang/invoke/VarHandle")
    {W9 : Nat} {Pre : Pt → Array Value → Prop} {Post : Pt → Array Value → Option Value → Pt → Prop} {PostX : Pt → Array Value → Addr → Pt → Prop} (hK : vx_Back l R p e below s args y 5 W9 Pre Post PostX)
    {b : Addr} {cellB : Cell} {kB : Class} (hcell : T.heap[b]? = some cellB) (hobj : cellB.vm.isStatics = false) (hcls : s.vm.findClass C = some cellB.cls) (hkB : s.vm.classes[cellB.cls]? = some kB)
    {g : JFrame} (hg : g.method = m) (hsize : g.locals.size = c.maxLocals) {argsL rest : List Value} (hlen : ∀ sig, parseMethodDescriptor x.desc = some sig → argsL.length = sig.parameters.length)
    (hstack : g.stack = argsL.reverse ++ .ref b :: rest) (hW : 2 * g.monitorRoom + (rest.map fun v => v.category).sum ≤ W9) (hdg : decode c.code g.pc = .ok (.invokeinterface index count, 5))
    (hpre : ∀ vm₁, s.WarmedH vm₁ → Pre ⟨T.setVm vm₁, locs, cells, slots⟩ (Value.ref b :: argsL).toArray) :
    (∃ (v : Option Value) (vm₁ : Vm) (B : Pt), s.WarmedH vm₁ ∧ Stand p l e R s m args below meth c B.U B.locs B.cells B.slots ∧ Post ⟨T.setVm vm₁, locs, cells, slots⟩ (Value.ref b :: argsL).toArray v B ∧
      ∀ target, Steps p.tables e below (B.U.setTop { g with pc := g.pc + 5, stack := v.toList ++ rest }) target → Steps p.tables e below (T.setTop g) target) ∨
    (∃ (q : Addr) (vm₁ : Vm) (B : Pt), s.WarmedH vm₁ ∧ Stand p l e R s m args below meth c B.U B.locs B.cells B.slots ∧ PostX ⟨T.setVm vm₁, locs, cells, slots⟩ (Value.ref b :: argsL).toArray q B ∧
      Steps p.tables e below (T.setTop g) ((B.U.setTop { g with stack := rest }).pushFrame (.throwing q))) := by
  obtain ⟨r0, r, hn, hrm, hstR, hsigR⟩ := Cond.declares_spec hdecl
  obtain ⟨cL, kL, r1, hcL, hkL, hiL, hfoundL, hn1⟩ := Cond.interfaceMethod_spec hface
  cases hn.symm.trans hn1
  have hr0cls : r0.cls = cL := Option.some.inj ((findClass_of_methodNamed hn).symm.trans hcL)
  obtain ⟨mk, methM, hnamed, hmethM, -, habM⟩ := Cond.instanceMethod_spec hinst
  obtain ⟨c2, r2, m2, rm, q1, q2, q3, q5, q4, -, q6, -⟩ := Cond.landsInDefault_spec hsel
  cases hcls.symm.trans q1
  cases hfoundL.symm.trans q2
  cases hnamed.symm.trans q3
  cases hrm.symm.trans q5
  have hselP : selectMethod e.platform s.vm cellB.cls r0 = .method mk := by rw [Launch.admits_selectMethod X.admits]; exact q4
  have hpubM : hasFlag methM.accessFlags Acc.public_ = true := Cond.publicMethod_spec hnamed hmethM hpub
  obtain ⟨c3, t3, w1, w2, w3⟩ := Cond.castable_spec hcast
  cases hcls.symm.trans w1
  cases hcL.symm.trans w2
  obtain ⟨vm₁, X₁, hstep₁⟩ := X.invokeinterface hexec hown hlink hn hrm hstR (by rw [hr0cls]; exact hkL) hiL hx (a := b) (cell := cellB) (kcell := kB) hcell
    (fun z h => by rw [h] at hobj; cases hobj) hkB (by rw [hr0cls]; exact w3) hselP hmethM q6 hpubM habM (g := g) hg (argsL := argsL) (rest := rest) (hlen _ hsigR) hstack hdg
  rcases hK m meth c ⟨T.setVm vm₁, locs, cells, slots⟩ { g with stack := rest } (.invokeinterface index count) mk (Value.ref b :: argsL).toArray X₁ hg hsize hdg hW (X₁.named hnamed) (hpre vm₁ X₁.warmed) with ⟨v, B, X', hpost, hsteps⟩ | ⟨q, B, X', hpost, hsteps⟩
  · exact Or.inl ⟨v, vm₁, B, X₁.warmed, X', hpost, fun target h => hstep₁ _ fun acts => by rw [doInvoke_state]; exact hsteps.trans h⟩
  · exact Or.inr ⟨q, vm₁, B, X₁.warmed, X', hpost, hstep₁ _ fun acts => by rw [doInvoke_state]; exact hsteps⟩
theorem z_runDef {bytes : ByteArray} {maxL mc ms index count : Nat} {ret : Option FieldType} {ws' : List Cond} {rm : Room} {Pc : Array Value → State → Prop} {Qc : Array Value → State → Outcome → State → Prop} {XC : String → Addr → State → State → Prop} {free : Addr → Prop} {C : String} {cC : ClassId} {b : Addr} {As rest : List Value} {g : JFrame}
    (hC : zCx p s m args c cc nL own D) (hCm : C ∈ (["PluralBranches$Gendered", "PluralBranches$Listed"] : List String)) (hM : vx_Met l zTd (Cond.code zTd bytes maxL ret :: ws') rm Pc Qc XC mc ms free) (hat : ClassAt s C cC) (hlink : Cond.methodLink own index zTd ∈ lw_all) (hR : rm.frames + 1 ≤ R.frames ∧ 8 + (maxL + 11) + rm.locals ≤ R.locals) (hinst : Cond.instanceMethod zTd ∈ lw_all) (hini0 : Cond.initialized "PluralBranches$Thing" ∈ lw_all) (hG : GoodIn lw_all (Cond.code zTd bytes maxL ret :: ws')) (hp : PreV s H C b Pc As) (hrc : rm.cells = mc) (hrs : rm.slots = ms)
    (hg : g.method = m) (hn : As.length = 1) (hsize : g.locals.size = nL) (hstack : g.stack = As.reverse ++ .ref b :: rest) (hW : 2 * g.monitorRoom + (rest.map fun v => v.category).sum ≤ 8) (hdg : decode cc g.pc = .ok (.invokeinterface index count, 5)) (hf : cells + mc ≤ R.cells ∧ slots + ms ≤ R.slots) :
    vx_Run5 p l e R s m args below meth c H locs cells slots mc ms g rest (Qc (Value.ref b :: As).toArray) XC free := by
  obtain ⟨hF, hland⟩ := hC.K.2.2.2.2.2.2.2.2.1.2.2.1 C hCm
  have ht := hC.ts
  have hcw : Cond.code zTd bytes maxL ret ∈ (Cond.code zTd bytes maxL ret :: ws') := List.mem_cons_self
  have hini : (Cond.initialized zTd.cls).before args s = true := ht _ hini0
  have hK : vx_Back l R p e below s args zTd 5 8 (PreOf R mc ms Pc) (PostOf Qc mc ms free) (vx_Post XC mc ms free) := vx_back (bytes := bytes) (maxL := maxL) (ret := ret) hM hp.1 hrc hrs hR.1 hR.2 (pay_in ht hG) hcw (fun a' U hW => word_at hW (Or.inl (by first | rfl | simp [Cond.onTables, Cond.keeps, Cond.steady])) hini)
  obtain ⟨-, ⟨cellB, hcB, hoB, hclB⟩, hPc⟩ := hp
  obtain ⟨hfc, kB, hkB, -⟩ := hat
  cases hfc.symm.trans hclB
  have hlen : ∀ sig, parseMethodDescriptor zTd.desc = some sig → As.length = sig.parameters.length := fun sig h => by
    have h2 : (parseMethodDescriptor zTd.desc).map (fun d => d.parameters.length) = some 1 := by decide +kernel
    rw [h] at h2
    exact hn.trans (Option.some.inj h2).symm
  intro T hT X
  rcases z_callDef X hC.x (C := C) (x := zTd) (y := zTd) hC.o (ht _ hlink) (va_any rfl hF.1) (va_any rfl hF.2.1) hland (ht _ hinst) (va_any rfl hF.2.2.1) (va_any rfl hF.2.2.2.2) (by decide) hK (by rw [hT]; exact hcB) hoB hclB hkB hg (hsize.trans hC.ml.symm) (argsL := As) (rest := rest) hlen hstack hW (by rw [hC.b]; exact hdg)
    (fun vm₁ hW₁ => ⟨hf.1, hf.2, hPc (T.setVm vm₁) hT hW₁⟩) with ⟨v, vm₁, ⟨U', l2, c2, s2⟩, hW₁, X', ⟨g', mk, t, L, e1, e2, hq, h1, hL, h2, h3⟩, st⟩ | ⟨q, vm₁, ⟨U', l2, c2, s2⟩, hW₁, X', ⟨g', mk, t, L, E, ce, e1, e2, hq, hce, hcv, hcl, h1, hL, h2, h3⟩, st⟩
  · dsimp only [Pt.U, Pt.locs, Pt.cells, Pt.slots] at X' e1 e2 h1 h2 h3 st
    subst h1; subst h2; subst h3
    exact Or.inl ⟨v, (T.setVm vm₁).calling g' mk (Value.ref b :: As).toArray, t, U', L, hT, X', hL, e1, e2, hq, st⟩
  · dsimp only [Pt.U, Pt.locs, Pt.cells, Pt.slots] at X' e1 e2 h1 h2 h3 st hcl
    subst h1; subst h2; subst h3
    exact Or.inr ⟨q, (T.setVm vm₁).calling g' mk (Value.ref b :: As).toArray, t, U', L, E, ce, hT, X', hL, e1, e2, hq, hce, hcv, vx_cls hW₁ hcl, st⟩
/-- natives -/
theorem z_nat {k L : Nat} (h : k ≤ 8) (h2 : 64 ≤ L) : k + 18 ≤ L := by omega
theorem z_nat15 {k L : Nat} (h : k ≤ 8) (h2 : 64 ≤ L) : k + 15 ≤ L := by omega
theorem z_getClass {index : Nat} {x : vp_A} (hC : zCx p s m args c cc nL own D) (hZ : zS D M H locs) (hml : ls.size = nL) (hM : M a = some (.inl (5, x))) (hb0 : zB D ≤ a) (hlink : Cond.methodLink own index ⟨"java/lang/Object", "getClass", "()Ljava/lang/Class;"⟩ ∈ lw_all) (hrest : (rest.map fun v => v.category).sum ≤ 8) (hfr : 1 ≤ R.frames) (hlo : 64 ≤ R.locals) (hdg : decode cc pc = .ok (.invokevirtual index, 3))
    (k : W p l e R s m args below meth c H locs cells slots Q (F0 m (pc + 3) ls (.ref (D.2.2.2 2) :: rest))) : W p l e R s m args below meth c H locs cells slots Q (F0 m pc ls (.ref a :: rest)) := by
  have hcell := (zat_arr hb0).mp (hZ.cell hM)
  rw [zav_cell] at hcell
  refine va_getC (C := "[Ljava/lang/Object;") hC.x hC.b (hC.ml.trans hml.symm) hC.o (hC.ts _ hlink) (va_Dc.use hC.K.2.2.2.2.2.2.2.2.1.1) (hC.ts _ q2315) (hC.ts _ q242) (hC.ts _ q274) hC.K.2.2.2.2.2.2.2.2.1.2.1 ⟨_, hcell, rfl, ?_⟩ hfr (by omega) hdg k
  have h := (hC.vK.2 5 _ rfl).2
  obtain ⟨kA, comp, r1, r2, r3, r4⟩ := h
  exact r4
theorem z_nn {z : Int32} (hz : ¬ z < 0) : z.toInt = (z.toNatClampNeg : Int) := by
  have hz0 : (0 : Int) ≤ z.toInt := by
    have := Int32.not_lt.mp hz
    simpa using Int32.le_iff_toInt_le.mp this
  show z.toInt = ((z.toInt.toNat : Nat) : Int)
  omega
/-- System.arraycopy over the map, whatever lies in the arrays -/
theorem z_copyG {α : Type} {mk : α → Value} {inn : Nat → (Nat → α) → vp_A} {k index : Nat} {a0 n0 n1 : Nat} {f g : Nat → α} {sp dp n : Int32} (hC : zCx p s m args c cc nL own D) (hZ : zS D M H locs) (hml : ls.size = nL) (hk : k < 11)
    (hin : ∀ (n : Nat) (f : Nat → α), (inn n f).1 = n ∧ zav (inn n f) = fun j => mk (f j)) (hM0 : M a0 = some (.inl (k, inn n0 f))) (hM1 : M a = some (.inl (k, inn n1 g))) (hb0 : zB D ≤ a) (h1 : ¬ sp < 0) (h2 : ¬ dp < 0) (h3 : ¬ n < 0) (h4 : sp.toNatClampNeg + n.toNatClampNeg ≤ n0) (h5 : dp.toNatClampNeg + n.toNatClampNeg ≤ n1)
    (ht : (zTys D)[k]? = some (D.2.1 k, zTy k)) (hty : ((refKind (zTy k) != refKind (zTy k)) || (!refKind (zTy k) && zTy k != zTy k)) = false)
    (hel : ∀ (T : State) (vm1 : Vm) (comp : ClassId), T.heap = H → s.vm.Alike vm1 → (∃ kA : Class, s.vm.classes[D.2.1 k]? = some kA ∧ kA.kind = .array comp (zTy k)) → ∀ i, i < n.toNatClampNeg → fits (zTy k) (mk (f (sp.toNatClampNeg + i))) = true ∧ (T.setVm vm1).takes comp (mk (f (sp.toNatClampNeg + i))))
    (hlink : Cond.methodLink own index arraycopyName ∈ lw_all) (hnat : Cond.native arraycopyName ∈ lw_all) (hstat : Cond.static arraycopyName ∈ lw_all) (hini : Cond.initialized "java/lang/System" ∈ lw_all) (hfr : 1 ≤ R.frames) (hlo : (rest.map fun v => v.category).sum + 18 ≤ R.locals) (hdg : decode cc pc = .ok (.invokestatic index, 3))
    (kk : ∀ (H1 : Heap) (locs1 : List Loc), zS D (zu M a (some (.inl (k, inn n1 (va_cpy f g sp.toNatClampNeg dp.toNatClampNeg n.toNatClampNeg))))) H1 locs1 → W p l e R s m args below meth c H1 locs1 cells slots Q (F0 m (pc + 3) ls rest)) : W p l e R s m args below meth c H locs cells slots Q (F0 m pc ls (.int n :: .int dp :: .ref a :: .int sp :: .ref a0 :: rest)) := by
  obtain ⟨scr, c1, ⟨c2, k0, hk0, cm0, hkk0⟩, c3, c4, c5⟩ := zat_a hC hk (hZ.cell hM0)
  have hcell := (zat_arr hb0).mp (hZ.cell hM1)
  rw [zav_cell] at hcell
  dsimp only at hcell c4 c5
  rw [(hin n1 g).1, (hin n1 g).2] at hcell
  rw [(hin n0 f).1] at c4 c5
  rw [(hin n0 f).2] at c5
  obtain ⟨-, k1, hk1, cm1, hkk1⟩ := (hC.vK.2 k _ ht).1 n1 (fun j => mk (g j))
  intro T hT X
  obtain ⟨vm', X', step⟩ := X.arraycopy hC.x hC.o (hC.ts _ hlink) (hC.ts _ hnat) (hC.ts _ hstat) (hC.ts _ hini) (src := a0) (dst := a) (cs := scr) (cd := arrV (D.2.1 k) n1 (fun j => mk (g j))) (srcPos := sp) (destPos := dp) (n := n) (by rw [hT]; exact c1) (by rw [hT]; exact hcell)
    c2 (fun _ h => by cases h) c3 (fun h => by cases h) hk0 hk1 hkk0 hkk1 hty h1 h2 h3
    (by rw [z_nn h1, z_nn h3, c4]; omega)
    (by rw [z_nn h2, z_nn h3, arrV_size]; omega)
    (fun vm₁ hal i hi => by
      have e : scr.slots.getD (sp.toNatClampNeg + i) .null = mk (f (sp.toNatClampNeg + i)) := by
        rw [Array.getD_eq_getD_getElem?, c5 _ (by omega)]
        rfl
      rw [e]
      exact hel T vm₁ cm1 hT hal ⟨k1, hk1, hkk1⟩ i hi)
    (g := F0 m pc ls (.int n :: .int dp :: .ref a :: .int sp :: .ref a0 :: rest)) rfl (by rw [hC.ml]; exact hml) (rest := rest) rfl (by rw [hC.b]; exact hdg) hfr (by show 2 * 0 + _ + _ ≤ _; have hw : nativeFrameWords "java/lang/System" "arraycopy" 5 = 7 := (by decide); omega)
  have e1 : copied scr (arrV (D.2.1 k) n1 (fun j => mk (g j))) sp dp n = arrV (D.2.1 k) n1 (fun j => mk (va_cpy f g sp.toNatClampNeg dp.toNatClampNeg n.toNatClampNeg j)) := va_copiedX mk scr _ f g c5 h4
  rw [e1] at X' step
  have hl : a < H.size := (Array.getElem?_eq_some_iff.mp hcell).1
  obtain ⟨cN, hcN⟩ : ∃ z, z = arrV (D.2.1 k) n1 (fun j => mk (va_cpy f g sp.toNatClampNeg dp.toNatClampNeg n.toNatClampNeg j)) := ⟨_, rfl⟩
  rw [← hcN] at X' step
  have hheap : ((T.setVm vm').setCell a cN).heap = H.setIfInBounds a cN := by rw [← hT]; rfl
  have oq : ∀ q : Nat, q ≠ a → (H.setIfInBounds a cN)[q]? = H[q]? := fun q hq => by simp [Array.getElem?_setIfInBounds, Ne.symm hq]
  have he : zat D a (.inl (k, inn n1 (va_cpy f g sp.toNatClampNeg dp.toNatClampNeg n.toNatClampNeg))) (H.setIfInBounds a cN) := by
    rw [zat_arr hb0, zav_cell]
    dsimp only
    rw [(hin n1 _).1, (hin n1 _).2, ← hcN]
    simp [Array.getElem?_setIfInBounds, hl]
  have hS1 := zS_put (k := 0) hZ hb0 he (by simp) oq
  obtain ⟨t, a1, b1⟩ := kk (H.setIfInBounds a cN) _ ⟨hS1.1, fun q hq => by
      rcases List.mem_append.mp hq with h | h
      · exact hZ.2 q h
      · obtain ⟨z, -, hz⟩ := List.mem_map.mp h
        rw [← hz]
        exact hb0⟩ _ hheap X'
  exact ⟨t, step t a1, b1⟩
theorem z_ldcwf {index : Nat} {v : UInt32} (hC : zCx p s m args c cc nL own D) (hconst : Cond.constantFloat own index v ∈ lw_all) (hdg : decode cc pc = .ok (.ldc_w index, 3))
    (k : W p l e R s m args below meth c H locs cells slots Q (F0 m (pc + 3) ls (.float v :: rest))) : W p l e R s m args below meth c H locs cells slots Q (F0 m pc ls rest) := by
  obtain ⟨k9, cf, hk, hcf, hcp⟩ := Cond.constantFloat_spec hC.o (hC.ts _ hconst)
  have hexec := hC.x
  have hdg' : decode c.code (F0 m pc ls rest).pc = .ok (.ldc_w index, 3) := by rw [hC.b]; exact hdg
  intro T hT X
  obtain ⟨t, a1, b1⟩ := k T hT X
  refine ⟨t, ?_, b1⟩
  obtain ⟨k', hk', he⟩ := X.warmed.alike.2.2 _ _ hk
  jvm_step X.here [hexec, hdg', ldc_w.wp_float (s := T) (f := F0 m pc ls rest) X.here.top hk' (by rw [he]; exact hcf) hcp]
  exact a1
theorem zNoObj : ∀ r ∈ zCl, r.1 ≠ "java/lang/Object" := by decide
def zcp0 (D : zD) (M : zM) (b0 b : Nat) (sp dp n : Int32) (Φ : zM → Prop) : Prop := ∃ (n0 n1 : Nat) (f g : Nat → Int32), M b0 = some (.inl (0, n0, .inl f)) ∧ M b = some (.inl (0, n1, .inl g)) ∧ zB D ≤ b ∧ ¬ sp < 0 ∧ ¬ dp < 0 ∧ ¬ n < 0 ∧ sp.toNatClampNeg + n.toNatClampNeg ≤ n0 ∧ dp.toNatClampNeg + n.toNatClampNeg ≤ n1 ∧ Φ (zu M b (some (.inl (0, n1, .inl (va_cpy f g sp.toNatClampNeg dp.toNatClampNeg n.toNatClampNeg)))))
theorem z_copy0 {index : Nat} {a0 : Nat} {sp dp n : Int32} {Φ : zM → Prop} (hC : zCx p s m args c cc nL own D) (hZ : zS D M H locs) (hml : ls.size = nL) (hw : zcp0 D M a0 a sp dp n Φ) (hlink : Cond.methodLink own index arraycopyName ∈ lw_all) (hnat : Cond.native arraycopyName ∈ lw_all) (hstat : Cond.static arraycopyName ∈ lw_all) (hini : Cond.initialized "java/lang/System" ∈ lw_all) (hfr : 1 ≤ R.frames) (hlo : (rest.map fun v => v.category).sum + 18 ≤ R.locals) (hdg : decode cc pc = .ok (.invokestatic index, 3))
    (kk : ∀ (M1 : zM) (H1 : Heap) (locs1 : List Loc), Φ M1 → zS D M1 H1 locs1 → W p l e R s m args below meth c H1 locs1 cells slots Q (F0 m (pc + 3) ls rest)) : W p l e R s m args below meth c H locs cells slots Q (F0 m pc ls (.int n :: .int dp :: .ref a :: .int sp :: .ref a0 :: rest)) := by
  obtain ⟨n0, n1, f, g, h1, h2, h3, h4, h5, h6, h7, h8, hq⟩ := hw
  exact z_copyG (α := Int32) (mk := fun z => .int z) (inn := fun n f => (n, .inl f)) (k := 0) hC hZ hml (by decide) (fun _ _ => ⟨rfl, rfl⟩) h1 h2 h3 h4 h5 h6 h7 h8 rfl rfl (fun _ _ _ _ _ _ i hi => ⟨rfl, trivial⟩) hlink hnat hstat hini hfr hlo hdg (fun H1 locs1 hz => kk _ H1 locs1 hq hz)
def zcp1 (D : zD) (M : zM) (b0 b : Nat) (sp dp n : Int32) (Φ : zM → Prop) : Prop := ∃ (n0 n1 : Nat) (f g : Nat → Int32), M b0 = some (.inl (1, n0, .inl f)) ∧ M b = some (.inl (1, n1, .inl g)) ∧ zB D ≤ b ∧ ¬ sp < 0 ∧ ¬ dp < 0 ∧ ¬ n < 0 ∧ sp.toNatClampNeg + n.toNatClampNeg ≤ n0 ∧ dp.toNatClampNeg + n.toNatClampNeg ≤ n1 ∧ (∀ i, i < n.toNatClampNeg → fits .byte (.int (f (sp.toNatClampNeg + i))) = true) ∧ Φ (zu M b (some (.inl (1, n1, .inl (va_cpy f g sp.toNatClampNeg dp.toNatClampNeg n.toNatClampNeg)))))
theorem z_copy1 {index : Nat} {a0 : Nat} {sp dp n : Int32} {Φ : zM → Prop} (hC : zCx p s m args c cc nL own D) (hZ : zS D M H locs) (hml : ls.size = nL) (hw : zcp1 D M a0 a sp dp n Φ) (hlink : Cond.methodLink own index arraycopyName ∈ lw_all) (hnat : Cond.native arraycopyName ∈ lw_all) (hstat : Cond.static arraycopyName ∈ lw_all) (hini : Cond.initialized "java/lang/System" ∈ lw_all) (hfr : 1 ≤ R.frames) (hlo : (rest.map fun v => v.category).sum + 18 ≤ R.locals) (hdg : decode cc pc = .ok (.invokestatic index, 3))
    (kk : ∀ (M1 : zM) (H1 : Heap) (locs1 : List Loc), Φ M1 → zS D M1 H1 locs1 → W p l e R s m args below meth c H1 locs1 cells slots Q (F0 m (pc + 3) ls rest)) : W p l e R s m args below meth c H locs cells slots Q (F0 m pc ls (.int n :: .int dp :: .ref a :: .int sp :: .ref a0 :: rest)) := by
  obtain ⟨n0, n1, f, g, h1, h2, h3, h4, h5, h6, h7, h8, hx, hq⟩ := hw
  exact z_copyG (α := Int32) (mk := fun z => .int z) (inn := fun n f => (n, .inl f)) (k := 1) hC hZ hml (by decide) (fun _ _ => ⟨rfl, rfl⟩) h1 h2 h3 h4 h5 h6 h7 h8 rfl rfl (fun _ _ _ _ _ _ i hi => ⟨hx i hi, trivial⟩) hlink hnat hstat hini hfr hlo hdg (fun H1 locs1 hz => kk _ H1 locs1 hq hz)
def zcp2 (D : zD) (M : zM) (b0 b : Nat) (sp dp n : Int32) (Φ : zM → Prop) : Prop := ∃ (n0 n1 : Nat) (f g : Nat → Int64), M b0 = some (.inl (2, n0, .inr (.inl f))) ∧ M b = some (.inl (2, n1, .inr (.inl g))) ∧ zB D ≤ b ∧ ¬ sp < 0 ∧ ¬ dp < 0 ∧ ¬ n < 0 ∧ sp.toNatClampNeg + n.toNatClampNeg ≤ n0 ∧ dp.toNatClampNeg + n.toNatClampNeg ≤ n1 ∧ Φ (zu M b (some (.inl (2, n1, .inr (.inl (va_cpy f g sp.toNatClampNeg dp.toNatClampNeg n.toNatClampNeg))))))
theorem z_copy2 {index : Nat} {a0 : Nat} {sp dp n : Int32} {Φ : zM → Prop} (hC : zCx p s m args c cc nL own D) (hZ : zS D M H locs) (hml : ls.size = nL) (hw : zcp2 D M a0 a sp dp n Φ) (hlink : Cond.methodLink own index arraycopyName ∈ lw_all) (hnat : Cond.native arraycopyName ∈ lw_all) (hstat : Cond.static arraycopyName ∈ lw_all) (hini : Cond.initialized "java/lang/System" ∈ lw_all) (hfr : 1 ≤ R.frames) (hlo : (rest.map fun v => v.category).sum + 18 ≤ R.locals) (hdg : decode cc pc = .ok (.invokestatic index, 3))
    (kk : ∀ (M1 : zM) (H1 : Heap) (locs1 : List Loc), Φ M1 → zS D M1 H1 locs1 → W p l e R s m args below meth c H1 locs1 cells slots Q (F0 m (pc + 3) ls rest)) : W p l e R s m args below meth c H locs cells slots Q (F0 m pc ls (.int n :: .int dp :: .ref a :: .int sp :: .ref a0 :: rest)) := by
  obtain ⟨n0, n1, f, g, h1, h2, h3, h4, h5, h6, h7, h8, hq⟩ := hw
  exact z_copyG (α := Int64) (mk := fun z => .long z) (inn := fun n f => (n, .inr (.inl f))) (k := 2) hC hZ hml (by decide) (fun _ _ => ⟨rfl, rfl⟩) h1 h2 h3 h4 h5 h6 h7 h8 rfl rfl (fun _ _ _ _ _ _ i hi => ⟨rfl, trivial⟩) hlink hnat hstat hini hfr hlo hdg (fun H1 locs1 hz => kk _ H1 locs1 hq hz)
def zcp3 (D : zD) (M : zM) (b0 b : Nat) (sp dp n : Int32) (Φ : zM → Prop) : Prop := ∃ (n0 n1 : Nat) (f g : Nat → UInt32), M b0 = some (.inl (3, n0, .inr (.inr (.inl f)))) ∧ M b = some (.inl (3, n1, .inr (.inr (.inl g)))) ∧ zB D ≤ b ∧ ¬ sp < 0 ∧ ¬ dp < 0 ∧ ¬ n < 0 ∧ sp.toNatClampNeg + n.toNatClampNeg ≤ n0 ∧ dp.toNatClampNeg + n.toNatClampNeg ≤ n1 ∧ Φ (zu M b (some (.inl (3, n1, .inr (.inr (.inl (va_cpy f g sp.toNatClampNeg dp.toNatClampNeg n.toNatClampNeg)))))))
theorem z_copy3 {index : Nat} {a0 : Nat} {sp dp n : Int32} {Φ : zM → Prop} (hC : zCx p s m args c cc nL own D) (hZ : zS D M H locs) (hml : ls.size = nL) (hw : zcp3 D M a0 a sp dp n Φ) (hlink : Cond.methodLink own index arraycopyName ∈ lw_all) (hnat : Cond.native arraycopyName ∈ lw_all) (hstat : Cond.static arraycopyName ∈ lw_all) (hini : Cond.initialized "java/lang/System" ∈ lw_all) (hfr : 1 ≤ R.frames) (hlo : (rest.map fun v => v.category).sum + 18 ≤ R.locals) (hdg : decode cc pc = .ok (.invokestatic index, 3))
    (kk : ∀ (M1 : zM) (H1 : Heap) (locs1 : List Loc), Φ M1 → zS D M1 H1 locs1 → W p l e R s m args below meth c H1 locs1 cells slots Q (F0 m (pc + 3) ls rest)) : W p l e R s m args below meth c H locs cells slots Q (F0 m pc ls (.int n :: .int dp :: .ref a :: .int sp :: .ref a0 :: rest)) := by
  obtain ⟨n0, n1, f, g, h1, h2, h3, h4, h5, h6, h7, h8, hq⟩ := hw
  exact z_copyG (α := UInt32) (mk := fun z => .float z) (inn := fun n f => (n, .inr (.inr (.inl f)))) (k := 3) hC hZ hml (by decide) (fun _ _ => ⟨rfl, rfl⟩) h1 h2 h3 h4 h5 h6 h7 h8 rfl rfl (fun _ _ _ _ _ _ i hi => ⟨rfl, trivial⟩) hlink hnat hstat hini hfr hlo hdg (fun H1 locs1 hz => kk _ H1 locs1 hq hz)
def zcp4 (D : zD) (M : zM) (b0 b : Nat) (sp dp n : Int32) (Φ : zM → Prop) : Prop := ∃ (n0 n1 : Nat) (f g : Nat → UInt64), M b0 = some (.inl (4, n0, .inr (.inr (.inr (.inl f))))) ∧ M b = some (.inl (4, n1, .inr (.inr (.inr (.inl g))))) ∧ zB D ≤ b ∧ ¬ sp < 0 ∧ ¬ dp < 0 ∧ ¬ n < 0 ∧ sp.toNatClampNeg + n.toNatClampNeg ≤ n0 ∧ dp.toNatClampNeg + n.toNatClampNeg ≤ n1 ∧ Φ (zu M b (some (.inl (4, n1, .inr (.inr (.inr (.inl (va_cpy f g sp.toNatClampNeg dp.toNatClampNeg n.toNatClampNeg))))))))
theorem z_copy4 {index : Nat} {a0 : Nat} {sp dp n : Int32} {Φ : zM → Prop} (hC : zCx p s m args c cc nL own D) (hZ : zS D M H locs) (hml : ls.size = nL) (hw : zcp4 D M a0 a sp dp n Φ) (hlink : Cond.methodLink own index arraycopyName ∈ lw_all) (hnat : Cond.native arraycopyName ∈ lw_all) (hstat : Cond.static arraycopyName ∈ lw_all) (hini : Cond.initialized "java/lang/System" ∈ lw_all) (hfr : 1 ≤ R.frames) (hlo : (rest.map fun v => v.category).sum + 18 ≤ R.locals) (hdg : decode cc pc = .ok (.invokestatic index, 3))
    (kk : ∀ (M1 : zM) (H1 : Heap) (locs1 : List Loc), Φ M1 → zS D M1 H1 locs1 → W p l e R s m args below meth c H1 locs1 cells slots Q (F0 m (pc + 3) ls rest)) : W p l e R s m args below meth c H locs cells slots Q (F0 m pc ls (.int n :: .int dp :: .ref a :: .int sp :: .ref a0 :: rest)) := by
  obtain ⟨n0, n1, f, g, h1, h2, h3, h4, h5, h6, h7, h8, hq⟩ := hw
  exact z_copyG (α := UInt64) (mk := fun z => .double z) (inn := fun n f => (n, .inr (.inr (.inr (.inl f))))) (k := 4) hC hZ hml (by decide) (fun _ _ => ⟨rfl, rfl⟩) h1 h2 h3 h4 h5 h6 h7 h8 rfl rfl (fun _ _ _ _ _ _ i hi => ⟨rfl, trivial⟩) hlink hnat hstat hini hfr hlo hdg (fun H1 locs1 hz => kk _ H1 locs1 hq hz)
def zcp5 (D : zD) (M : zM) (b0 b : Nat) (sp dp n : Int32) (Φ : zM → Prop) : Prop := ∃ (n0 n1 : Nat) (f g : Nat → Option Nat), M b0 = some (.inl (5, n0, .inr (.inr (.inr (.inr f))))) ∧ M b = some (.inl (5, n1, .inr (.inr (.inr (.inr g))))) ∧ zB D ≤ b ∧ ¬ sp < 0 ∧ ¬ dp < 0 ∧ ¬ n < 0 ∧ sp.toNatClampNeg + n.toNatClampNeg ≤ n0 ∧ dp.toNatClampNeg + n.toNatClampNeg ≤ n1 ∧ (∀ i, i < n.toNatClampNeg → ∀ w : Nat, f (sp.toNatClampNeg + i) = some w → zis M w (zok 5)) ∧ Φ (zu M b (some (.inl (5, n1, .inr (.inr (.inr (.inr (va_cpy f g sp.toNatClampNeg dp.toNatClampNeg n.toNatClampNeg))))))))
theorem z_copy5 {index : Nat} {a0 : Nat} {sp dp n : Int32} {Φ : zM → Prop} (hC : zCx p s m args c cc nL own D) (hZ : zS D M H locs) (hml : ls.size = nL) (hw : zcp5 D M a0 a sp dp n Φ) (hlink : Cond.methodLink own index arraycopyName ∈ lw_all) (hnat : Cond.native arraycopyName ∈ lw_all) (hstat : Cond.static arraycopyName ∈ lw_all) (hini : Cond.initialized "java/lang/System" ∈ lw_all) (hfr : 1 ≤ R.frames) (hlo : (rest.map fun v => v.category).sum + 18 ≤ R.locals) (hdg : decode cc pc = .ok (.invokestatic index, 3))
    (kk : ∀ (M1 : zM) (H1 : Heap) (locs1 : List Loc), Φ M1 → zS D M1 H1 locs1 → W p l e R s m args below meth c H1 locs1 cells slots Q (F0 m (pc + 3) ls rest)) : W p l e R s m args below meth c H locs cells slots Q (F0 m pc ls (.int n :: .int dp :: .ref a :: .int sp :: .ref a0 :: rest)) := by
  obtain ⟨n0, n1, f, g, h1, h2, h3, h4, h5, h6, h7, h8, hx, hq⟩ := hw
  exact z_copyG (α := Option Nat) (mk := fun z => va_rf z) (inn := fun n f => (n, .inr (.inr (.inr (.inr f))))) (k := 5) hC hZ hml (by decide) (fun _ _ => ⟨rfl, rfl⟩) h1 h2 h3 h4 h5 h6 h7 h8 rfl rfl (fun T vm1 comp hT hal hcomp i hi => by
    have hl9 : ∀ r, f (sp.toNatClampNeg + i) = r → fits (zTy 5) (va_rf r) = true ∧ (T.setVm vm1).takes comp (va_rf r) := by
      intro r hr
      cases r with
      | none => exact ⟨rfl, trivial⟩
      | some y =>
        obtain ⟨ci, fs, g1, g2⟩ := hx i hi y hr
        obtain ⟨C, T9, N, ty, g3, g4⟩ := z_ok hC (kd := 5) rfl g1
        obtain ⟨cellV, k1, k2, k3⟩ := z_recv hC hZ g2 g3
        obtain ⟨kA, comp9, r1, r2, r3, -⟩ := (hC.vK.2 5 _ rfl).2
        obtain ⟨kA', hk1, hkk1⟩ := hcomp
        cases hk1.symm.trans r1
        cases hkk1.symm.trans r2
        obtain ⟨kC, hkC, -⟩ := Vm.findClass_spec k3
        obtain ⟨kE, hkE, -⟩ := Vm.findClass_spec r3
        obtain ⟨kC', hkC', -⟩ := hal.2.2 _ _ hkC
        obtain ⟨kE', hkE', -⟩ := hal.2.2 _ _ hkE
        refine ⟨rfl, cellV, (show T.heap[y]? = some cellV by rw [hT]; exact k1), (fun q h => by rw [h] at k2; cases k2), ⟨kC', hkC'⟩, ⟨kE', hkE'⟩, ?_⟩
        show vm1.assignable _ _ = true
        rw [hal.assignable]
        rcases g4 with g4 | g4
        · exact absurd g4 (zNoObj _ (List.mem_of_getElem? g3.1))
        · obtain ⟨c3, t3, w1, w2, w3⟩ := Cond.castable_spec (va_Nw.use (A := #[]) rfl g4)
          cases k3.symm.trans w1
          cases r3.symm.trans w2
          exact w3
    exact hl9 _ rfl) hlink hnat hstat hini hfr hlo hdg (fun H1 locs1 hz => kk _ H1 locs1 hq hz)
end ZV
