/-! Z-KIT 3: contracts over the map, calls, ends, exceptions -/
set_option maxRecDepth 100000
def zQ {α : Type} (D : zD) (inj : α → Option Value) (post : α → zM → Prop) : Array Value → State → Outcome → State → Prop := fun _ _ oc t => ∃ (r : α) (M' : zM), oc = .returned (inj r) ∧ post r M' ∧ zH D M' t.heap
def zX (D : zD) (xp : Nat → zM → Prop) : String → Addr → State → State → Prop := fun E q _ t => ∃ (M' : zM) (ci : Nat) (fs : List Value) (T : u_T) (N : Nat), zCl[ci]? = some (E, T, N) ∧ M' q = some (.inr (ci, fs)) ∧ zB D ≤ q ∧ xp q M' ∧ zH D M' t.heap
def zPc (D : zD) (av : List Value) (M : zM) : Array Value → State → Prop := va_Pc av (fun U => zH D M U.heap ∧ zK D U)
abbrev zI : Int32 → Option Value := fun r => some (.int r)
abbrev zL : Int64 → Option Value := fun r => some (.long r)
abbrev zF : UInt32 → Option Value := fun r => some (.float r)
abbrev zDb : UInt64 → Option Value := fun r => some (.double r)
abbrev zU : Unit → Option Value := fun _ => none
abbrev zR : Option Nat → Option Value := fun r => some (va_rf r)
def zMet {α : Type} (l : Launch) (D : zD) (y : MethodName) (ws : List Cond) (rm : Room) (mc ms : Nat) (av : List Value) (M : zM) (inj : α → Option Value) (post : α → zM → Prop) (xp : Nat → zM → Prop) : Prop := vx_Met l y ws rm (zPc D av M) (zQ D inj post) (zX D xp) mc ms (zA D)
theorem zPc_blind {D : zD} {av : List Value} {M : zM} : FrameBlind (zPc D av M) := fun a U g mk h => ⟨h.1, h.2.1, zK_same (s := U) (U := U.calling g mk a) rfl h.2.2⟩
/-- what the blocks of one method share -/
def zGx (p : Program) (l : Launch) (s : State) (m : MethodId) (args : Array Value) (meth : Method) (c : Code) (cc : ByteArray) (nL : Nat) (own : String) (D : zD) (ret : Option FieldType) (nm : String) (tb : List ExceptionTableEntry) : Prop :=
  zCx p s m args c cc nL own D ∧ meth.sig.returnType = ret ∧ meth.locks = false ∧ meth.name = nm ∧ c.exceptionTable.toList = tb ∧ l.stackTraces = false
section ZC
variable {p : Program} {l : Launch} {e : Env} {R : Room} {s : State} {m : MethodId} {args : Array Value} {below : List Frame} {meth : Method} {c : Code} {H : Heap} {locs : List Loc} {cells slots : Nat} {Q : State → Prop}
variable {cc : ByteArray} {nL pc : Nat} {ls : Array Slot} {rest st : List Value} {D : zD} {M : zM} {own : String} {a : Nat} {ret : Option FieldType} {nm : String} {tb : List ExceptionTableEntry}
theorem zGx.C (h : zGx p l s m args meth c cc nL own D ret nm tb) : zCx p s m args c cc nL own D := h.1
theorem zCx.fix (h : zCx p s m args c cc nL own D) : CallFix p m c cc nL s args lw_all own := ⟨h.x, h.b, h.ml, h.o, h.ts⟩
theorem z_preS {As : List Value} (hC : zCx p s m args c cc nL own D) (hZ : zS D M H locs) : PreS s H (zPc D As M) As := ⟨zPc_blind, fun U hU hW => ⟨rfl, by rw [hU]; exact hZ.1, zK_warm hW hC.K⟩⟩
theorem z_preV {As : List Value} {C : String} {T : u_T} {N ci : Nat} {ty : Nat → FieldType} {fs : List Value} (hC : zCx p s m args c cc nL own D) (hZ : zS D M H locs) (hM : M a = some (.inr (ci, fs))) (hc : zCls ci C T N ty) : PreV s H C a (zPc D (.ref a :: As) M) As := ⟨zPc_blind, z_recv hC hZ hM hc, fun U hU hW => ⟨rfl, by rw [hU]; exact hZ.1, zK_warm hW hC.K⟩⟩
/-- any call's end -/
theorem z_call {α : Type} {inj : α → Option Value} {post : α → zM → Prop} {xp : Nat → zM → Prop} {aa : Array Value} {mc ms : Nat} (hZ : zS D M H locs)
    (hr : vx_Run p l e R s m args below meth c H locs cells slots mc ms (F0 m pc ls st) rest (zQ D inj post aa) (zX D xp) (zA D))
    (kk : ∀ (r : α) (M1 : zM) (H1 : Heap) (locs1 : List Loc), post r M1 → zS D M1 H1 locs1 → W p l e R s m args below meth c H1 locs1 (cells + mc) (slots + ms) Q (F0 m (pc + 3) ls ((inj r).toList ++ rest)))
    (kx : ∀ (q : Nat) (M1 : zM) (H1 : Heap) (locs1 : List Loc) (ci : Nat) (fs : List Value) (E : String) (T : u_T) (N : Nat), xp q M1 → zS D M1 H1 locs1 → zCl[ci]? = some (E, T, N) → M1 q = some (.inr (ci, fs)) → zB D ≤ q → vx_W p l e R s m args below meth c H1 locs1 (cells + mc) (slots + ms) Q (F0 m pc ls rest) q) :
    W p l e R s m args below meth c H locs cells slots Q (F0 m pc ls st) := by
  intro T hT X
  rcases hr T hT X with ⟨v, st₀, t, T', L, h0, X', hL, e1, e2, ⟨r, M', hv, hp, hz⟩, hg⟩ | ⟨q, st₀, t, T', L, E, ce, h0, X', hL, e1, e2, ⟨M', ci, fs, T9, N, hc, hM, hb, hp, hz⟩, -, -, -, hg⟩
  · cases hv
    obtain ⟨t2, a1, b1⟩ := kk r M' T'.heap (locs ++ L) hp ⟨by rw [e1]; exact hz, fun x hx => (List.mem_append.mp hx).elim (hZ.2 x) (hL x)⟩ T' rfl X'
    exact ⟨t2, hg t2 a1, b1⟩
  · obtain ⟨t2, a1, b1⟩ := kx q M' T'.heap (locs ++ L) ci fs E T9 N hp ⟨by rw [e1]; exact hz, fun x hx => (List.mem_append.mp hx).elim (hZ.2 x) (hL x)⟩ hc hM hb T' rfl X'
    exact ⟨t2, hg.trans a1, b1⟩
/-- ends -/
theorem z_iret {v : Int32} {mc ms : Nat} {post : Int32 → zM → Prop} {xp : Nat → zM → Prop} (hG : zGx p l s m args meth c cc nL own D (some .int) nm tb) (hZ : zS D M H locs) (hcs : cells ≤ mc) (hss : slots ≤ ms) (hp : post v M) (hdg : decode cc pc = .ok (.ireturn, 1)) :
    W p l e R s m args below meth c H locs cells slots (vx_MQ below (zQ D zI post) (zX D xp) args s mc ms (zA D)) (F0 m pc ls [.int v]) :=
  vx_ret (W.widen hcs hss (W.iret hG.C.x hG.C.b hG.2.1 (fun t ht _ => ⟨v, M, rfl, hp, by rw [ht]; exact hZ.1⟩) hZ.2 hdg (hlocks := hG.2.2.1)))
theorem z_zret {v : Int32} {mc ms : Nat} {post : Int32 → zM → Prop} {xp : Nat → zM → Prop} {rt : FieldType} (hG : zGx p l s m args meth c cc nL own D (some rt) nm tb) (hZ : zS D M H locs) (hcs : cells ≤ mc) (hss : slots ≤ ms) (hn : narrow rt (.int v) = .int v) (hp : post v M) (hdg : decode cc pc = .ok (.ireturn, 1)) :
    W p l e R s m args below meth c H locs cells slots (vx_MQ below (zQ D zI post) (zX D xp) args s mc ms (zA D)) (F0 m pc ls [.int v]) :=
  vx_ret (W.widen hcs hss (W.zret hG.C.x hG.C.b hG.2.1 hn (fun t ht _ => ⟨v, M, rfl, hp, by rw [ht]; exact hZ.1⟩) hZ.2 hdg (hlocks := hG.2.2.1)))
theorem z_lret {v : Int64} {mc ms : Nat} {post : Int64 → zM → Prop} {xp : Nat → zM → Prop} (hG : zGx p l s m args meth c cc nL own D (some .long) nm tb) (hZ : zS D M H locs) (hcs : cells ≤ mc) (hss : slots ≤ ms) (hp : post v M) (hdg : decode cc pc = .ok (.lreturn, 1)) :
    W p l e R s m args below meth c H locs cells slots (vx_MQ below (zQ D zL post) (zX D xp) args s mc ms (zA D)) (F0 m pc ls [.long v]) :=
  vx_ret (W.widen hcs hss (W.lret hG.C.x hG.C.b hG.2.1 (fun t ht _ => ⟨v, M, rfl, hp, by rw [ht]; exact hZ.1⟩) hZ.2 hdg (hlocks := hG.2.2.1)))
theorem z_dret {v : UInt64} {mc ms : Nat} {post : UInt64 → zM → Prop} {xp : Nat → zM → Prop} (hG : zGx p l s m args meth c cc nL own D (some .double) nm tb) (hZ : zS D M H locs) (hcs : cells ≤ mc) (hss : slots ≤ ms) (hp : post v M) (hdg : decode cc pc = .ok (.dreturn, 1)) :
    W p l e R s m args below meth c H locs cells slots (vx_MQ below (zQ D zDb post) (zX D xp) args s mc ms (zA D)) (F0 m pc ls [.double v]) :=
  vx_ret (W.widen hcs hss (W.dret hG.C.x hG.C.b hG.2.1 (fun t ht _ => ⟨v, M, rfl, hp, by rw [ht]; exact hZ.1⟩) hZ.2 hdg (hlocks := hG.2.2.1)))
theorem z_vret {mc ms : Nat} {post : Unit → zM → Prop} {xp : Nat → zM → Prop} (hG : zGx p l s m args meth c cc nL own D none nm tb) (hZ : zS D M H locs) (hcs : cells ≤ mc) (hss : slots ≤ ms) (hp : post () M) (hdg : decode cc pc = .ok (.return_, 1)) :
    W p l e R s m args below meth c H locs cells slots (vx_MQ below (zQ D zU post) (zX D xp) args s mc ms (zA D)) (F0 m pc ls []) :=
  vx_ret (W.widen hcs hss (W.vret hG.C.x hG.C.b hG.2.1 (fun t ht _ => ⟨(), M, rfl, hp, by rw [ht]; exact hZ.1⟩) hZ.2 hdg (hlocks := hG.2.2.1)))
theorem z_aret {r : Option Nat} {mc ms : Nat} {post : Option Nat → zM → Prop} {xp : Nat → zM → Prop} {rt : FieldType} (hG : zGx p l s m args meth c cc nL own D (some rt) nm tb) (hrt : (∃ n, rt = .object n) ∨ ∃ t, rt = .array t) (hZ : zS D M H locs) (hcs : cells ≤ mc) (hss : slots ≤ ms) (hp : post r M) (hdg : decode cc pc = .ok (.areturn, 1)) :
    W p l e R s m args below meth c H locs cells slots (vx_MQ below (zQ D zR post) (zX D xp) args s mc ms (zA D)) (F0 m pc ls [va_rf r]) :=
  vx_ret (W.widen hcs hss (W.aret hG.C.x hG.C.b hG.2.1 hrt (by cases r with | none => exact Or.inl rfl | some q => exact Or.inr ⟨q, rfl⟩) (fun t ht _ => ⟨r, M, rfl, hp, by rw [ht]; exact hZ.1⟩) hZ.2 hdg (hlocks := hG.2.2.1)))
/-- what is thrown leaves the method -/
theorem z_out {α : Type} {inj : α → Option Value} {mc ms q ci N : Nat} {post : α → zM → Prop} {xp : Nat → zM → Prop} {fs : List Value} {E : String} {T : u_T} (hG : zGx p l s m args meth c cc nL own D ret nm tb) (hZ : zS D M H locs) (hM : M q = some (.inr (ci, fs))) (hb : zB D ≤ q) (hc : zCl[ci]? = some (E, T, N)) (hout : ∀ x ∈ tb, covers x pc = false) (hcs : cells ≤ mc) (hss : slots ≤ ms) (hp : xp q M) :
    vx_W p l e R s m args below meth c H locs cells slots (vx_MQ below (zQ D inj post) (zX D xp) args s mc ms (zA D)) (F0 m pc ls rest) q := by
  obtain ⟨hC, -, hlk, -, htb, -⟩ := hG
  obtain ⟨r, h1, cell, q1, q2, q3, -⟩ := (zat_obj hb).mp (hZ.cell hM)
  have hr : r = (E, T, N) := Option.some.inj (h1.symm.trans hc)
  subst hr
  exact vx_out (by rw [htb]; exact hout) hlk q1 q3 (by rw [q2]; exact (hC.vK.1 ci _ hc).2.1) (fun t ht _ => ⟨M, ci, fs, T, N, hc, hM, hb, hp, by rw [ht]; exact hZ.1⟩) hZ.2 hcs hss
/-- what is thrown is caught here -/
theorem z_catch {q ci N : Nat} {fs : List Value} {E name : String} {T : u_T} (hG : zGx p l s m args meth c cc nL own D ret nm tb) (hZ : zS D M H locs) (hM : M q = some (.inr (ci, fs))) (hb : zB D ≤ q) (hc : zCl[ci]? = some (E, T, N)) (pre : List ExceptionTableEntry) (x : ExceptionTableEntry) (suf : List ExceptionTableEntry) (hsplit : tb = pre ++ x :: suf)
    (hpass : ∀ z ∈ pre, covers z pc = false) (hx : covers x pc = true) (h0 : x.catchType ≠ 0) (hlink : Cond.classLink own x.catchType name ∈ lw_all) (hcast : Cond.castable E name ∈ lw_tbl)
    (kk : W p l e R s m args below meth c H locs cells slots Q (F0 m x.handlerPc ls [.ref q])) : vx_W p l e R s m args below meth c H locs cells slots Q (F0 m pc ls rest) q := by
  obtain ⟨hC, -, hlk, -, htb, -⟩ := hG
  obtain ⟨r, h1, cell, q1, q2, q3, -⟩ := (zat_obj hb).mp (hZ.cell hM)
  have hr : r = (E, T, N) := Option.some.inj (h1.symm.trans hc)
  subst hr
  exact vx_catch hC.o pre x suf (htb.trans hsplit) (fun z hz => Or.inl (hpass z hz)) hx h0 (hC.ts _ hlink) (hC.nwu hcast rfl) q1 q3 (by rw [q2]; exact (hC.vK.1 ci _ hc).2.1) kk
theorem z_catchAny {q ci N : Nat} {fs : List Value} {E : String} {T : u_T} (hG : zGx p l s m args meth c cc nL own D ret nm tb) (hZ : zS D M H locs) (hM : M q = some (.inr (ci, fs))) (hb : zB D ≤ q) (hc : zCl[ci]? = some (E, T, N)) (pre : List ExceptionTableEntry) (x : ExceptionTableEntry) (suf : List ExceptionTableEntry) (hsplit : tb = pre ++ x :: suf)
    (hpass : ∀ z ∈ pre, covers z pc = false) (hx : covers x pc = true) (h0 : x.catchType = 0)
    (kk : W p l e R s m args below meth c H locs cells slots Q (F0 m x.handlerPc ls [.ref q])) : vx_W p l e R s m args below meth c H locs cells slots Q (F0 m pc ls rest) q := by
  obtain ⟨hC, -, hlk, -, htb, -⟩ := hG
  obtain ⟨r, h1, cell, q1, q2, q3, -⟩ := (zat_obj hb).mp (hZ.cell hM)
  have hr : r = (E, T, N) := Option.some.inj (h1.symm.trans hc)
  subst hr
  have hcl : s.vm.findClass E = some cell.cls := by rw [q2]; exact (hC.vK.1 ci _ hc).2.1
  intro T0 hT X
  obtain ⟨vm', X', st⟩ := X.thenCaughtThrough q (g := F0 m pc ls rest) rfl (Steps.refl _) (by rw [hT]; exact q1) (by rw [q3]; rfl) (by obtain ⟨k9, h9, -⟩ := Vm.findClass_spec hcl; exact ⟨k9, h9⟩) pre x suf (htb.trans hsplit)
    (fun z hz => Or.inl (hpass z hz)) hx (Or.inl h0)
  obtain ⟨t, a1, b1⟩ := kk (T0.setVm vm') hT X'
  exact ⟨t, st.trans a1, b1⟩
/-- casts, instanceof -/
theorem z_cast {C name : String} {T : u_T} {N ci index : Nat} {ty : Nat → FieldType} {fs : List Value} (hC : zCx p s m args c cc nL own D) (hZ : zS D M H locs) (hM : M a = some (.inr (ci, fs))) (hc : zCls ci C T N ty) (hlink : Cond.classLink own index name ∈ lw_all) (hcast : C = name ∨ Cond.castable C name ∈ lw_tbl) (hdg : decode cc pc = .ok (.checkcast index, 3))
    (k : W p l e R s m args below meth c H locs cells slots Q (F0 m (pc + 3) ls (.ref a :: rest))) : W p l e R s m args below meth c H locs cells slots Q (F0 m pc ls (.ref a :: rest)) := by
  rcases hcast with h | h
  · subst h
    exact va_castS hC.x hC.b hC.o (hC.ts _ hlink) (hC.vK.1 ci _ hc.1).2 (z_recv hC hZ hM hc) hdg k
  · exact va_castY hC.x hC.b hC.o (hC.ts _ hlink) (hC.nw h rfl) (z_recv hC hZ hM hc) hdg k
theorem z_instY {C name : String} {T : u_T} {N ci index : Nat} {ty : Nat → FieldType} {fs : List Value} (hC : zCx p s m args c cc nL own D) (hZ : zS D M H locs) (hM : M a = some (.inr (ci, fs))) (hc : zCls ci C T N ty) (hlink : Cond.classLink own index name ∈ lw_all) (hcast : C = name) (hdg : decode cc pc = .ok (.instanceof index, 3))
    (k : W p l e R s m args below meth c H locs cells slots Q (F0 m (pc + 3) ls (.int 1 :: rest))) : W p l e R s m args below meth c H locs cells slots Q (F0 m pc ls (.ref a :: rest)) := by
  subst hcast
  exact va_instS hC.x hC.b hC.o (hC.ts _ hlink) (hC.vK.1 ci _ hc.1).2 (z_recv hC hZ hM hc) hdg k
theorem z_instN {C name : String} {T : u_T} {N ci index : Nat} {ty : Nat → FieldType} {fs : List Value} (hC : zCx p s m args c cc nL own D) (hZ : zS D M H locs) (hM : M a = some (.inr (ci, fs))) (hc : zCls ci C T N ty) (hlink : Cond.classLink own index name ∈ lw_all) (hneg : (C, name) ∈ zNs) (hdg : decode cc pc = .ok (.instanceof index, 3))
    (k : W p l e R s m args below meth c H locs cells slots Q (F0 m (pc + 3) ls (.int 0 :: rest))) : W p l e R s m args below meth c H locs cells slots Q (F0 m pc ls (.ref a :: rest)) :=
  va_instNo hC.x hC.b hC.o (hC.ts _ hlink) (hC.K.2.2.2.2.1 _ hneg) (z_recv hC hZ hM hc) hdg k
theorem z_arrN {k : Nat} {t : FieldType} (hC : zCx p s m args c cc nL own D) (hk : (k = 2 ∧ t = .long) ∨ (k = 3 ∧ t = .float) ∨ (k = 4 ∧ t = .double)) : (zTys D)[k]? = some (D.2.1 k, t) ∧ s.vm.findClass ("[" ++ t.toString) = some (D.2.1 k) := by
  rcases hk with ⟨rfl, rfl⟩ | ⟨rfl, rfl⟩ | ⟨rfl, rfl⟩
  · exact ⟨rfl, (hC.vK.2 2 _ rfl).2⟩
  · exact ⟨rfl, (hC.vK.2 3 _ rfl).2⟩
  · exact ⟨rfl, (hC.vK.2 4 _ rfl).2⟩
theorem z_castA {k index : Nat} {t : FieldType} {x : vp_A} {name : String} (hC : zCx p s m args c cc nL own D) (hZ : zS D M H locs) (hM : M a = some (.inl (k, x))) (hb0 : zB D ≤ a) (hk : (k = 2 ∧ t = .long) ∨ (k = 3 ∧ t = .float) ∨ (k = 4 ∧ t = .double)) (hname : "[" ++ t.toString = name) (hlink : Cond.classLink own index name ∈ lw_all) (hdg : decode cc pc = .ok (.checkcast index, 3))
    (k : W p l e R s m args below meth c H locs cells slots Q (F0 m (pc + 3) ls (.ref a :: rest))) : W p l e R s m args below meth c H locs cells slots Q (F0 m pc ls (.ref a :: rest)) := by
  subst hname
  exact va_castE hC.x hC.b hC.o (hC.ts _ hlink) (z_recvA hC hZ hM hb0 (z_arrN hC hk).1 (z_arrN hC hk).2) hdg k
theorem z_instAY {k index : Nat} {t : FieldType} {x : vp_A} {name : String} (hC : zCx p s m args c cc nL own D) (hZ : zS D M H locs) (hM : M a = some (.inl (k, x))) (hb0 : zB D ≤ a) (hk : (k = 2 ∧ t = .long) ∨ (k = 3 ∧ t = .float) ∨ (k = 4 ∧ t = .double)) (hname : "[" ++ t.toString = name) (hlink : Cond.classLink own index name ∈ lw_all) (hdg : decode cc pc = .ok (.instanceof index, 3))
    (k : W p l e R s m args below meth c H locs cells slots Q (F0 m (pc + 3) ls (.int 1 :: rest))) : W p l e R s m args below meth c H locs cells slots Q (F0 m pc ls (.ref a :: rest)) := by
  subst hname
  exact va_instE hC.x hC.b hC.o (hC.ts _ hlink) (z_recvA hC hZ hM hb0 (z_arrN hC hk).1 (z_arrN hC hk).2) hdg k
theorem z_instAN {k index : Nat} {t : FieldType} {x : vp_A} {name : String} (hC : zCx p s m args c cc nL own D) (hZ : zS D M H locs) (hM : M a = some (.inl (k, x))) (hb0 : zB D ≤ a) (hk : (k = 2 ∧ t = .long) ∨ (k = 3 ∧ t = .float) ∨ (k = 4 ∧ t = .double)) (hlink : Cond.classLink own index name ∈ lw_all) (hneg : ("[" ++ t.toString, name) ∈ zNs) (hdg : decode cc pc = .ok (.instanceof index, 3))
    (k : W p l e R s m args below meth c H locs cells slots Q (F0 m (pc + 3) ls (.int 0 :: rest))) : W p l e R s m args below meth c H locs cells slots Q (F0 m pc ls (.ref a :: rest)) :=
  va_instNo hC.x hC.b hC.o (hC.ts _ hlink) (hC.K.2.2.2.2.1 _ hneg) (z_recvA hC hZ hM hb0 (z_arrN hC hk).1 (z_arrN hC hk).2) hdg k
/-- a local that holds a reference or null -/
theorem z_aload_n {k : Fin 4} {i : Nat} {r : Option Nat} (hC : zCx p s m args c cc nL own D) (hdg : decode cc pc = .ok (.aload_n k, 1)) (hi : (k : Nat) = i) (hl : ls[i]? = some (.val (va_rf r)))
    (kk : W p l e R s m args below meth c H locs cells slots Q (F0 m (pc + 1) ls (va_rf r :: rest))) : W p l e R s m args below meth c H locs cells slots Q (F0 m pc ls rest) := by
  cases r with
  | none => exact lv_aload_nN hC.x hC.b hdg hi hl kk
  | some x => exact lv_aload_n hC.x hC.b hdg hi hl kk
theorem z_aload {i : Nat} {r : Option Nat} (hC : zCx p s m args c cc nL own D) (hdg : decode cc pc = .ok (.aload i, 2)) (hl : ls[i]? = some (.val (va_rf r)))
    (kk : W p l e R s m args below meth c H locs cells slots Q (F0 m (pc + 2) ls (va_rf r :: rest))) : W p l e R s m args below meth c H locs cells slots Q (F0 m pc ls rest) := by
  cases r with
  | none => exact lv_aloadN hC.x hC.b hdg hl kk
  | some x => exact lv_aload hC.x hC.b hdg hl kk
theorem z_astore_n {k : Fin 4} {i : Nat} {r : Option Nat} {lv lv' : List (Nat × Value)} (hC : zCx p s m args c cc nL own D) (hdg : decode cc pc = .ok (.astore_n k, 1)) (hi : (k : Nat) = i) (h : lv_has ls nL lv) (hn : i < nL) (hl : (i, va_rf r) :: lv.filter (fun q => !(q.1 == i) && !(q.1 + 1 == i && q.2.category == 2)) = lv')
    (kk : ∀ ls' : Array Slot, lv_has ls' nL lv' → W p l e R s m args below meth c H locs cells slots Q (F0 m (pc + 1) ls' rest)) : W p l e R s m args below meth c H locs cells slots Q (F0 m pc ls (va_rf r :: rest)) := by
  cases r with
  | none => exact lv_astore_nN hC.x hC.b hdg hi h hn hl kk
  | some x => exact lv_astore_n hC.x hC.b hdg hi h hn hl kk
theorem z_astore {i : Nat} {r : Option Nat} {lv lv' : List (Nat × Value)} (hC : zCx p s m args c cc nL own D) (hdg : decode cc pc = .ok (.astore i, 2)) (h : lv_has ls nL lv) (hn : i < nL) (hl : (i, va_rf r) :: lv.filter (fun q => !(q.1 == i) && !(q.1 + 1 == i && q.2.category == 2)) = lv')
    (kk : ∀ ls' : Array Slot, lv_has ls' nL lv' → W p l e R s m args below meth c H locs cells slots Q (F0 m (pc + 2) ls' rest)) : W p l e R s m args below meth c H locs cells slots Q (F0 m pc ls (va_rf r :: rest)) := by
  cases r with
  | none => exact lv_astoreN hC.x hC.b hdg h hn hl kk
  | some x => exact lv_astore hC.x hC.b hdg h hn hl kk
theorem z_ifnull {r : Option Nat} {off : Int} {tgt : Nat} (hC : zCx p s m args c cc nL own D) (hdg : decode cc pc = .ok (.ifnull off, 3)) (ht : (pc : Int) + off = (tgt : Int)) (kt : r = none → W p l e R s m args below meth c H locs cells slots Q (F0 m tgt ls rest)) (kf : ∀ b : Nat, r = some b → W p l e R s m args below meth c H locs cells slots Q (F0 m (pc + 3) ls rest)) : W p l e R s m args below meth c H locs cells slots Q (F0 m pc ls (va_rf r :: rest)) := by
  cases r with
  | none => exact lv_ifnullN hC.x hC.b hdg ht (kt rfl)
  | some x => exact lv_ifnull hC.x hC.b hdg (kf x rfl)
theorem z_ifnonnull {r : Option Nat} {off : Int} {tgt : Nat} (hC : zCx p s m args c cc nL own D) (hdg : decode cc pc = .ok (.ifnonnull off, 3)) (ht : (pc : Int) + off = (tgt : Int)) (kt : ∀ b : Nat, r = some b → W p l e R s m args below meth c H locs cells slots Q (F0 m tgt ls rest)) (kf : r = none → W p l e R s m args below meth c H locs cells slots Q (F0 m (pc + 3) ls rest)) : W p l e R s m args below meth c H locs cells slots Q (F0 m pc ls (va_rf r :: rest)) := by
  cases r with
  | none => exact lv_ifnonnullN hC.x hC.b hdg (kf rfl)
  | some x => exact lv_ifnonnull hC.x hC.b hdg ht (kt x rfl)
theorem z_null (hC : zCx p s m args c cc nL own D) (hdg : decode cc pc = .ok (.aconst_null, 1)) (k : W p l e R s m args below meth c H locs cells slots Q (F0 m (pc + 1) ls (va_rf none :: rest))) : W p l e R s m args below meth c H locs cells slots Q (F0 m pc ls rest) := lv_null hC.x hC.b hdg k
/-- statics, constants -/
theorem zS.va (hZ : zS D M H locs) (hs : ∀ q : Nat, q < zB D → s.heap[q]? = D.2.2.1.heap[q]?) (hz : zB D ≤ s.heap.size) : ∀ q : Nat, q < zB D → H[q]? = s.heap[q]? := fun q hq => (hZ.1.2.2 q hq).trans (hs q hq).symm
theorem z_gets {C n d ref : String} {v : Value} {index : Nat} (hC : zCx p s m args c cc nL own D) (hZ : zS D M H locs) (hz : va_Z C n d v (zA D) s D.2.2.1.heap) (hlink : Cond.fieldLink own index ref n d ∈ lw_all) (hsame : ∀ x, s.fieldFound? C n d = some x → s.fieldFound? ref n d = some x) (hdg : decode cc pc = .ok (.getstatic index, 3))
    (kk : W p l e R s m args below meth c H locs cells slots Q (F0 m (pc + 3) ls (v :: rest))) : W p l e R s m args below meth c H locs cells slots Q (F0 m pc ls rest) := by
  obtain ⟨cf, kf, fi, f, a, cell, h1, h2, h3, h4, h5, h6, h7, h8⟩ := hz
  have hlt : a < zB D := (Array.getElem?_eq_some_iff.mp h5).1
  exact W.gets hC.x hC.b hC.o (hC.ts _ hlink) (hsame _ h1) h2 h3 h4 (by rw [hZ.1.2.2 a hlt]; exact h5) (fun e => by rw [e] at h6; cases h6) h7 rfl hdg kk
theorem z_getsq {C n d ref : String} {index : Nat} (hC : zCx p s m args c cc nL own D) (hZ : zS D M H locs) (hz : va_Zq C n d (zA D) s D.2.2.1.heap) (hlink : Cond.fieldLink own index ref n d ∈ lw_all) (hsame : ∀ x, s.fieldFound? C n d = some x → s.fieldFound? ref n d = some x) (hdg : decode cc pc = .ok (.getstatic index, 3))
    (kk : ∀ r : Option Nat, W p l e R s m args below meth c H locs cells slots Q (F0 m (pc + 3) ls (va_rf r :: rest))) : W p l e R s m args below meth c H locs cells slots Q (F0 m pc ls rest) := by
  rcases hz with h | ⟨t, h⟩
  · exact z_gets hC hZ h hlink hsame hdg (kk none)
  · exact z_gets hC hZ h hlink hsame hdg (kk (some t))
theorem z_ldcS {tx : String} {index i : Nat} (hC : zCx p s m args c cc nL own D) (hi : zStr[i]? = some (own, index, tx)) (hdg : decode cc pc = .ok (.ldc index, 2))
    (k : W p l e R s m args below meth c H locs cells slots Q (F0 m (pc + 2) ls (.ref (D.2.2.2 (10 + i)) :: rest))) : W p l e R s m args below meth c H locs cells slots Q (F0 m pc ls rest) := va_ldcS hC.x hC.b hC.o (hC.K.2.2.2.2.2.2.2.1 i _ hi) hdg k
end ZC
section ZE
variable {l : Launch} {D : zD} {M : zM}
theorem zargs1 {i : Nat} {v : Value} {vs : List Value} {r : List (Nat × Value)} (hv : v.category = 1) (h : lv_args (i + 1) vs = r) : lv_args i (v :: vs) = (i, v) :: r := by
  rw [← h]
  show (i, v) :: lv_args (if v.category = 2 then i + 2 else i + 1) vs = _
  rw [if_neg (by rw [hv]; decide)]
theorem zargs2 {i : Nat} {v : Value} {vs : List Value} {r : List (Nat × Value)} (hv : v.category = 2) (h : lv_args (i + 2) vs = r) : lv_args i (v :: vs) = (i, v) :: r := by
  rw [← h]
  show (i, v) :: lv_args (if v.category = 2 then i + 2 else i + 1) vs = _
  rw [if_pos hv]
theorem zsl1 {v : Value} {vs : List Value} {n : Nat} (hv : v.category = 1) (h : (lg_sl vs).length ≤ n) : (lg_sl (v :: vs)).length ≤ n + 1 := by
  simp [lg_sl, hv] at h ⊢
  omega
theorem zsl2 {v : Value} {vs : List Value} {n : Nat} (hv : v.category = 2) (h : (lg_sl vs).length ≤ n) : (lg_sl (v :: vs)).length ≤ n + 2 := by
  simp [lg_sl, hv] at h ⊢
  omega
theorem zrm0 : (([] : List Value).map fun v => v.category).sum ≤ 0 := Nat.le_refl 0
theorem zrm1 {v : Value} {vs : List Value} {n : Nat} (hv : v.category = 1) (h : (vs.map fun v => v.category).sum ≤ n) : ((v :: vs).map fun v => v.category).sum ≤ n + 1 := by
  simp [hv] at h ⊢
  omega
theorem zrm2 {v : Value} {vs : List Value} {n : Nat} (hv : v.category = 2) (h : (vs.map fun v => v.category).sum ≤ n) : ((v :: vs).map fun v => v.category).sum ≤ n + 2 := by
  simp [hv] at h ⊢
  omega
/-- a method's walk from its entry -/
theorem z_ofW {α : Type} {y : MethodName} {cc : ByteArray} {maxL : Nat} {ret : Option FieldType} {rm : Room} {mc ms : Nat} {av : List Value} {inj : α → Option Value} {post : α → zM → Prop} {xp : Nat → zM → Prop} {lv : List (Nat × Value)} (hl : l.stackTraces = false) (hy : plainName y.cls = true) (hlen : (lg_sl av).length ≤ maxL) (hlv : lv_args 0 av = lv)
    (body : ∀ (p : Program) (e : Env) (s : State) (m : MethodId) (args : Array Value) (below : List Frame) (meth : Method) (c : Code) (ls : Array Slot), zGx p l s m args meth c cc maxL y.cls D ret y.name [] → zS D M s.heap [] → lv_has ls maxL lv → W p l e rm s m args below meth c s.heap [] 0 0 (vx_MQ below (zQ D inj post) (zX D xp) args s mc ms (zA D)) (F0 m 0 ls [])) : zMet l D y (ws_ y cc maxL ret) rm mc ms av M inj post xp := by
  refine vx_ofW (cc := cc) (maxL := maxL) (ret := ret) hy rfl ?_
  intro p e s m args below meth c s₁ B hml htb hv
  obtain ⟨rfl, hH, hK⟩ := hv
  have hts := atoms_spec (ws := ws_ y cc maxL ret) B.pre
  rw [lg_entry_eq]
  refine body p e s m _ below meth c _ ⟨⟨B.exec, B.bytes, hml, findClass_of_methodNamed B.named, fun w h => hts w (List.mem_cons_of_mem _ h), hK⟩, B.returns, B.notSynchronized, (name_of_methodNamed B.named B.method).1, ?_, hl⟩ ⟨hH, fun x hx => by cases hx⟩ (by rw [← hlv]; exact lv_entry av hlen)
  cases htl : c.exceptionTable.toList with
  | nil => rfl
  | cons x xs => exact absurd (htb x (by rw [htl]; exact List.mem_cons_self)) (fun h => h)
theorem z_ofWH {α : Type} {y : MethodName} {cc : ByteArray} {maxL : Nat} {ret : Option FieldType} {hh : List (Nat × Nat × Nat × Nat)} {rm : Room} {mc ms : Nat} {av : List Value} {inj : α → Option Value} {post : α → zM → Prop} {xp : Nat → zM → Prop} {lv : List (Nat × Value)} (hl : l.stackTraces = false) (hy : plainName y.cls = true) (hlen : (lg_sl av).length ≤ maxL) (hlv : lv_args 0 av = lv)
    (body : ∀ (p : Program) (e : Env) (s : State) (m : MethodId) (args : Array Value) (below : List Frame) (meth : Method) (c : Code) (ls : Array Slot), zGx p l s m args meth c cc maxL y.cls D ret y.name (tableOf hh) → zS D M s.heap [] → lv_has ls maxL lv → W p l e rm s m args below meth c s.heap [] 0 0 (vx_MQ below (zQ D inj post) (zX D xp) args s mc ms (zA D)) (F0 m 0 ls [])) : zMet l D y (wsW_ y cc maxL ret hh) rm mc ms av M inj post xp := by
  refine vx_ofWH (cc := cc) (maxL := maxL) (ret := ret) (hh := hh) hy rfl ?_
  intro p e s m args below meth c s₁ B hml hv
  obtain ⟨rfl, hH, hK⟩ := hv
  have hts := atoms_spec (ws := wsW_ y cc maxL ret hh) B.pre
  rw [lg_entry_eq]
  exact body p e s m _ below meth c _ ⟨⟨B.exec, B.bytes, hml, findClass_of_methodNamed B.named, fun w h => hts w (List.mem_cons_of_mem _ h), hK⟩, B.returns, B.notSynchronized, (name_of_methodNamed B.named B.method).1, vx_table (x := y) B (hts _ List.mem_cons_self), hl⟩ ⟨hH, fun x hx => by cases hx⟩ (by rw [← hlv]; exact lv_entry av hlen)
end ZE
