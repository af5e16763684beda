/-! Z-WP 2: the rows that the printed walks use beside Z-KIT 2, 3 -/
set_option maxRecDepth 100000
section ZW
variable {p : Program} {l : Launch} {e : Env} {R : Room} {s : State} {m : MethodId} {args : Array Value} {below : List Frame} {meth : Method} {c : Code} {H : Heap} {locs : List Loc} {cells slots : Nat} {Q : State → Prop}
variable {cc : ByteArray} {nL pc : Nat} {ls : Array Slot} {rest st : List Value} {D : zD} {M : zM} {own : String} {a : Nat} {ret : Option FieldType} {nm : String} {tb : List ExceptionTableEntry}
theorem zCx.tsT (h : zCx p s m args c cc nL own D) {w : Cond} (hw : w ∈ lw_all) : w.before args s = true := h.ts w hw
theorem z_getm {ref : String} {index : Nat} {L : List (Nat × Nat)} {q : Nat × Nat} {fs : List Value} {v : Value} (hC : zCx p s m args c cc nL own D) (hZ : zS D M H locs) (hM : M a = some (.inr (q.1, fs))) (hA : ∀ q ∈ L, ∃ (C : String) (T : u_T) (N : Nat) (ty : Nat → FieldType), zCls q.1 C T N ty ∧ q.2 < N ∧ Cond.fieldLink own index ref (T q.2).2.1 (T q.2).2.2.1 ∈ lw_all ∧ ∀ x, s.fieldFound? (T q.2).1 (T q.2).2.1 (T q.2).2.2.1 = some x → s.fieldFound? ref (T q.2).2.1 (T q.2).2.2.1 = some x) (hq : q ∈ L) (hv : fs[q.2]? = some v) (hdg : decode cc pc = .ok (.getfield index, 3))
    (kk : W p l e R s m args below meth c H locs cells slots Q (F0 m (pc + 3) ls (v :: rest))) : W p l e R s m args below meth c H locs cells slots Q (F0 m pc ls (.ref a :: rest)) := by
  obtain ⟨C, T, N, ty, h1, h2, h3, h4⟩ := hA q hq
  exact z_get hC hZ hM h1 q.2 h2 h3 h4 hv hdg kk
theorem z_getNm {ref host : String} {index : Nat} {L : List (Nat × Nat)} {q : Nat × Nat} {fs : List Value} {v : Value} (hC : zCx p s m args c cc nL own D) (hZ : zS D M H locs) (hM : M a = some (.inr (q.1, fs))) (hA : ∀ q ∈ L, ∃ (C : String) (T : u_T) (N : Nat) (ty : Nat → FieldType), zCls q.1 C T N ty ∧ q.2 < N ∧ Cond.fieldLinkNest own index ref (T q.2).2.1 (T q.2).2.2.1 host ∈ lw_tbl ∧ ∀ x, s.fieldFound? (T q.2).1 (T q.2).2.1 (T q.2).2.2.1 = some x → s.fieldFound? ref (T q.2).2.1 (T q.2).2.2.1 = some x) (hq : q ∈ L) (hv : fs[q.2]? = some v) (hdg : decode cc pc = .ok (.getfield index, 3))
    (kk : W p l e R s m args below meth c H locs cells slots Q (F0 m (pc + 3) ls (v :: rest))) : W p l e R s m args below meth c H locs cells slots Q (F0 m pc ls (.ref a :: rest)) := by
  obtain ⟨C, T, N, ty, h1, h2, h3, h4⟩ := hA q hq
  exact z_getN hC hZ hM h1 q.2 h2 h3 h4 hv hdg kk
theorem z_putFm {ref : String} {index : Nat} {L : List (Nat × Nat)} {q : Nat × Nat} {ty0 : FieldType} {fs : List Value} {v : Value} (hC : zCx p s m args c cc nL own D) (hZ : zS D M H locs) (hM : M a = some (.inr (q.1, fs))) (hb0 : zB D ≤ a) (hA : ∀ q ∈ L, ∃ (C : String) (T : u_T) (N : Nat) (ty : Nat → FieldType), zCls q.1 C T N ty ∧ q.2 < N ∧ Cond.fieldLink own index ref (T q.2).2.1 (T q.2).2.2.1 ∈ lw_all ∧ (∀ x, s.fieldFound? (T q.2).1 (T q.2).2.1 (T q.2).2.2.1 = some x → s.fieldFound? ref (T q.2).2.1 (T q.2).2.2.1 = some x) ∧ ty q.2 = ty0 ∧ (T q.2).2.2.2 = true ∧ (T q.2).1 = own) (hq : q ∈ L) (hin2 : meth.name = "<init>") (hn : narrow ty0 v = v) (hfit : fits ty0 v = true) (hl : q.2 < fs.length) (hdg : decode cc pc = .ok (.putfield index, 3))
    (kk : ∀ (H1 : Heap) (locs1 : List Loc), zS D (zu M a (some (.inr (q.1, fs.set q.2 v)))) H1 locs1 → W p l e R s m args below meth c H1 locs1 cells slots Q (F0 m (pc + 3) ls rest)) : W p l e R s m args below meth c H locs cells slots Q (F0 m pc ls (v :: .ref a :: rest)) := by
  obtain ⟨C, T, N, ty, h1, h2, h3, h4, h5, h6, h7⟩ := hA q hq
  subst h5
  exact z_putF hC hZ hM hb0 h1 q.2 h2 h3 h4 h6 hin2 h7 hn hfit hl hdg kk
theorem z_putm {ref : String} {index : Nat} {L : List (Nat × Nat)} {q : Nat × Nat} {ty0 : FieldType} {fs : List Value} {v : Value} (hC : zCx p s m args c cc nL own D) (hZ : zS D M H locs) (hM : M a = some (.inr (q.1, fs))) (hb0 : zB D ≤ a) (hA : ∀ q ∈ L, ∃ (C : String) (T : u_T) (N : Nat) (ty : Nat → FieldType), zCls q.1 C T N ty ∧ q.2 < N ∧ Cond.fieldLink own index ref (T q.2).2.1 (T q.2).2.2.1 ∈ lw_all ∧ (∀ x, s.fieldFound? (T q.2).1 (T q.2).2.1 (T q.2).2.2.1 = some x → s.fieldFound? ref (T q.2).2.1 (T q.2).2.2.1 = some x) ∧ ty q.2 = ty0 ∧ (T q.2).2.2.2 = false) (hq : q ∈ L) (hn : narrow ty0 v = v) (hfit : fits ty0 v = true) (hl : q.2 < fs.length) (hdg : decode cc pc = .ok (.putfield index, 3))
    (kk : ∀ (H1 : Heap) (locs1 : List Loc), zS D (zu M a (some (.inr (q.1, fs.set q.2 v)))) H1 locs1 → W p l e R s m args below meth c H1 locs1 cells slots Q (F0 m (pc + 3) ls rest)) : W p l e R s m args below meth c H locs cells slots Q (F0 m pc ls (v :: .ref a :: rest)) := by
  obtain ⟨C, T, N, ty, h1, h2, h3, h4, h5, h6⟩ := hA q hq
  subst h5
  exact z_put hC hZ hM hb0 h1 q.2 h2 h3 h4 h6 hn hfit hl hdg kk
theorem z_putNm {ref host : String} {index : Nat} {L : List (Nat × Nat)} {q : Nat × Nat} {ty0 : FieldType} {fs : List Value} {v : Value} (hC : zCx p s m args c cc nL own D) (hZ : zS D M H locs) (hM : M a = some (.inr (q.1, fs))) (hb0 : zB D ≤ a) (hA : ∀ q ∈ L, ∃ (C : String) (T : u_T) (N : Nat) (ty : Nat → FieldType), zCls q.1 C T N ty ∧ q.2 < N ∧ Cond.fieldLinkNest own index ref (T q.2).2.1 (T q.2).2.2.1 host ∈ lw_tbl ∧ (∀ x, s.fieldFound? (T q.2).1 (T q.2).2.1 (T q.2).2.2.1 = some x → s.fieldFound? ref (T q.2).2.1 (T q.2).2.2.1 = some x) ∧ ty q.2 = ty0 ∧ (T q.2).2.2.2 = false) (hq : q ∈ L) (hn : narrow ty0 v = v) (hfit : fits ty0 v = true) (hl : q.2 < fs.length) (hdg : decode cc pc = .ok (.putfield index, 3))
    (kk : ∀ (H1 : Heap) (locs1 : List Loc), zS D (zu M a (some (.inr (q.1, fs.set q.2 v)))) H1 locs1 → W p l e R s m args below meth c H1 locs1 cells slots Q (F0 m (pc + 3) ls rest)) : W p l e R s m args below meth c H locs cells slots Q (F0 m pc ls (v :: .ref a :: rest)) := by
  obtain ⟨C, T, N, ty, h1, h2, h3, h4, h5, h6⟩ := hA q hq
  subst h5
  exact z_putN hC hZ hM hb0 h1 q.2 h2 h3 h4 h6 hn hfit hl hdg kk
/-- what lies in an array of kind kd -/
theorem z_ok (hC : zCx p s m args c cc nL own D) {kd ci : Nat} {E : String} (ht : (zTys D)[kd]? = some (D.2.1 kd, .object E)) (h : ci ∈ zok kd) : ∃ (C : String) (T : u_T) (N : Nat) (ty : Nat → FieldType), zCls ci C T N ty ∧ (C = E ∨ va_Nw (.castable C E) s) := by
  have hE : zTy kd = .object E := by
    match kd, h, ht with
    | 5, _, ht => cases ht; rfl
    | 6, _, ht => cases ht; rfl
    | 7, _, ht => cases ht; rfl
    | 8, _, ht => cases ht; rfl
    | 9, _, ht => cases ht; rfl
    | 10, _, ht => cases ht; rfl
  match kd, h, hE with
  | 5, h, hE =>
    cases hE
    exact (zal ⟨_, _, _, _, zc3, Or.inr (hC.nw q2284 rfl)⟩ (zal ⟨_, _, _, _, zc12, Or.inr (hC.nw q2291 rfl)⟩ (zal ⟨_, _, _, _, zc14, Or.inr (hC.nw q2293 rfl)⟩ (zal ⟨_, _, _, _, zc15, Or.inr (hC.nw q2294 rfl)⟩ (zal ⟨_, _, _, _, zc16, Or.inr (hC.nw q2295 rfl)⟩ (zal ⟨_, _, _, _, zc18, Or.inr (hC.nw q2297 rfl)⟩ (zal ⟨_, _, _, _, zc19, Or.inr (hC.nw q2298 rfl)⟩ (zal ⟨_, _, _, _, zc20, Or.inr (hC.nw q2299 rfl)⟩ (zal ⟨_, _, _, _, zc21, Or.inr (hC.nw q2300 rfl)⟩ za0)))))))) : ∀ ci ∈ zok 5, ∃ (C : String) (T : u_T) (N : Nat) (ty : Nat → FieldType), zCls ci C T N ty ∧ (C = "java/lang/Object" ∨ va_Nw (.castable C "java/lang/Object") s)) ci h
  | 6, h, hE =>
    cases hE
    exact (zal ⟨_, _, _, _, zc2, Or.inr (hC.nw q2310 rfl)⟩ (zal ⟨_, _, _, _, zc4, Or.inr (hC.nw q2311 rfl)⟩ (zal ⟨_, _, _, _, zc5, Or.inr (hC.nw q2312 rfl)⟩ (zal ⟨_, _, _, _, zc6, Or.inr (hC.nw q2313 rfl)⟩ za0))) : ∀ ci ∈ zok 6, ∃ (C : String) (T : u_T) (N : Nat) (ty : Nat → FieldType), zCls ci C T N ty ∧ (C = "PluralBranches$Language" ∨ va_Nw (.castable C "PluralBranches$Language") s)) ci h
  | 7, h, hE =>
    cases hE
    exact (zal ⟨_, _, _, _, zc1, Or.inl rfl⟩ za0 : ∀ ci ∈ zok 7, ∃ (C : String) (T : u_T) (N : Nat) (ty : Nat → FieldType), zCls ci C T N ty ∧ (C = "PluralBranches$Decimal" ∨ va_Nw (.castable C "PluralBranches$Decimal") s)) ci h
  | 8, h, hE =>
    cases hE
    exact (zal ⟨_, _, _, _, zc10, Or.inl rfl⟩ za0 : ∀ ci ∈ zok 8, ∃ (C : String) (T : u_T) (N : Nat) (ty : Nat → FieldType), zCls ci C T N ty ∧ (C = "PluralBranches$Message" ∨ va_Nw (.castable C "PluralBranches$Message") s)) ci h
  | 9, h, hE =>
    cases hE
    exact (zal ⟨_, _, _, _, zc22, Or.inr (hC.nw q1252 rfl)⟩ (zal ⟨_, _, _, _, zc23, Or.inr (hC.nw q1240 rfl)⟩ (zal ⟨_, _, _, _, zc24, Or.inr (hC.nw q1246 rfl)⟩ za0)) : ∀ ci ∈ zok 9, ∃ (C : String) (T : u_T) (N : Nat) (ty : Nat → FieldType), zCls ci C T N ty ∧ (C = "PluralBranches$Thing" ∨ va_Nw (.castable C "PluralBranches$Thing") s)) ci h
  | 10, h, hE =>
    cases hE
    exact (zal ⟨_, _, _, _, zc7, Or.inl rfl⟩ za0 : ∀ ci ∈ zok 10, ∃ (C : String) (T : u_T) (N : Nat) (ty : Nat → FieldType), zCls ci C T N ty ∧ (C = "PluralBranches$Row" ∨ va_Nw (.castable C "PluralBranches$Row") s)) ci h
theorem z_aastO {k n : Nat} {f : Nat → Option Nat} {i : Int32} {r : Option Nat} {E : String} (hC : zCx p s m args c cc nL own D) (hZ : zS D M H locs) (hM : M a = some (.inl (k, n, .inr (.inr (.inr (.inr f)))))) (hb0 : zB D ≤ a) (ht : (zTys D)[k]? = some (D.2.1 k, .object E)) (hr : ∀ w : Nat, r = some w → ∃ (ci : Nat) (fs : List Value), ci ∈ zok k ∧ M w = some (.inr (ci, fs))) (hin : vp_in i n) (hdg : decode cc pc = .ok (.aastore, 1))
    (kk : ∀ (H1 : Heap) (locs1 : List Loc), zS D (zu M a (some (.inl (k, n, .inr (.inr (.inr (.inr (va_up f i.toNatClampNeg r)))))))) H1 locs1 → W p l e R s m args below meth c H1 locs1 cells slots Q (F0 m (pc + 1) ls rest)) : W p l e R s m args below meth c H locs cells slots Q (F0 m pc ls (va_rf r :: .int i :: .ref a :: rest)) := by
  cases r with
  | none => exact z_aastN hC hZ hM hb0 ht hin hdg kk
  | some w =>
    obtain ⟨ci, fs, h1, h2⟩ := hr w rfl
    obtain ⟨C, T, N, ty, h3, h4⟩ := z_ok hC ht h1
    exact z_aast hC hZ hM hb0 ht h2 h3 h4 hin hdg kk
/-- casts and instanceof of a reference or null -/
theorem z_castO {index : Nat} {name : String} {L : List Nat} {r : Option Nat} (hC : zCx p s m args c cc nL own D) (hZ : zS D M H locs) (hr : ∀ w, r = some w → zis M w L) (hA : ∀ ci ∈ L, ∃ (C : String) (T : u_T) (N : Nat) (ty : Nat → FieldType), zCls ci C T N ty ∧ (C = name ∨ Cond.castable C name ∈ lw_tbl)) (hlink : Cond.classLink own index name ∈ lw_all) (hdg : decode cc pc = .ok (.checkcast index, 3))
    (k : W p l e R s m args below meth c H locs cells slots Q (F0 m (pc + 3) ls (va_rf r :: rest))) : W p l e R s m args below meth c H locs cells slots Q (F0 m pc ls (va_rf r :: rest)) := by
  cases r with
  | none => exact lv_castN hC.x hC.b hdg k
  | some w =>
    obtain ⟨ci, fs, h1, h2⟩ := hr w rfl
    obtain ⟨C, T, N, ty, h3, h4⟩ := hA ci h1
    exact z_cast hC hZ h2 h3 hlink h4 hdg k
theorem z_castAO {index kd : Nat} {name : String} {t : FieldType} {r : Option Nat} (hC : zCx p s m args c cc nL own D) (hZ : zS D M H locs) (hr : ∀ w, r = some w → zB D ≤ w ∧ ∃ x : vp_A, M w = some (.inl (kd, x))) (hk : (kd = 2 ∧ t = .long) ∨ (kd = 3 ∧ t = .float) ∨ (kd = 4 ∧ t = .double)) (hname : "[" ++ t.toString = name) (hlink : Cond.classLink own index name ∈ lw_all) (hdg : decode cc pc = .ok (.checkcast index, 3))
    (k : W p l e R s m args below meth c H locs cells slots Q (F0 m (pc + 3) ls (va_rf r :: rest))) : W p l e R s m args below meth c H locs cells slots Q (F0 m pc ls (va_rf r :: rest)) := by
  cases r with
  | none => exact lv_castN hC.x hC.b hdg k
  | some w =>
    obtain ⟨h1, x, h2⟩ := hr w rfl
    exact z_castA hC hZ h2 h1 hk hname hlink hdg k
theorem z_instYO {index ci : Nat} {C name : String} {T : u_T} {N : Nat} {ty : Nat → FieldType} {fs : List Value} {r : Option Nat} {w : Nat} (hC : zCx p s m args c cc nL own D) (hZ : zS D M H locs) (hr : r = some w) (hM : M w = some (.inr (ci, fs))) (hc : zCls ci C T N ty) (hlink : Cond.classLink own index name ∈ lw_all) (hcast : C = name) (hdg : decode cc pc = .ok (.instanceof index, 3))
    (k : W p l e R s m args below meth c H locs cells slots Q (F0 m (pc + 3) ls (.int 1 :: rest))) : W p l e R s m args below meth c H locs cells slots Q (F0 m pc ls (va_rf r :: rest)) := by
  subst hr
  exact z_instY hC hZ hM hc hlink hcast hdg k
theorem z_instNO {index : Nat} {name : String} {L : List Nat} {r : Option Nat} (hC : zCx p s m args c cc nL own D) (hZ : zS D M H locs) (hr : ∀ w, r = some w → zis M w L) (hA : ∀ ci ∈ L, ∃ (C : String) (T : u_T) (N : Nat) (ty : Nat → FieldType), zCls ci C T N ty ∧ (C, name) ∈ zNs) (hlink : Cond.classLink own index name ∈ lw_all) (hdg : decode cc pc = .ok (.instanceof index, 3))
    (k : W p l e R s m args below meth c H locs cells slots Q (F0 m (pc + 3) ls (.int 0 :: rest))) : W p l e R s m args below meth c H locs cells slots Q (F0 m pc ls (va_rf r :: rest)) := by
  cases r with
  | none => exact lv_instN hC.x hC.b hdg k
  | some w =>
    obtain ⟨ci, fs, h1, h2⟩ := hr w rfl
    obtain ⟨C, T, N, ty, h3, h4⟩ := hA ci h1
    exact z_instN hC hZ h2 h3 hlink h4 hdg k
theorem z_instAYO {index kd : Nat} {name : String} {t : FieldType} {x : vp_A} {r : Option Nat} {w : Nat} (hC : zCx p s m args c cc nL own D) (hZ : zS D M H locs) (hr : r = some w) (hM : M w = some (.inl (kd, x))) (hb0 : zB D ≤ w) (hk : (kd = 2 ∧ t = .long) ∨ (kd = 3 ∧ t = .float) ∨ (kd = 4 ∧ t = .double)) (hname : "[" ++ t.toString = name) (hlink : Cond.classLink own index name ∈ lw_all) (hdg : decode cc pc = .ok (.instanceof index, 3))
    (k : W p l e R s m args below meth c H locs cells slots Q (F0 m (pc + 3) ls (.int 1 :: rest))) : W p l e R s m args below meth c H locs cells slots Q (F0 m pc ls (va_rf r :: rest)) := by
  subst hr
  exact z_instAY hC hZ hM hb0 hk hname hlink hdg k
theorem z_instANO {index k1 k2 : Nat} {name : String} {t1 t2 : FieldType} {r : Option Nat} (hC : zCx p s m args c cc nL own D) (hZ : zS D M H locs) (hr : ∀ w, r = some w → zB D ≤ w ∧ ∃ x : vp_A, M w = some (.inl (k1, x)) ∨ M w = some (.inl (k2, x))) (hk1 : (k1 = 2 ∧ t1 = .long) ∨ (k1 = 3 ∧ t1 = .float) ∨ (k1 = 4 ∧ t1 = .double)) (hk2 : (k2 = 2 ∧ t2 = .long) ∨ (k2 = 3 ∧ t2 = .float) ∨ (k2 = 4 ∧ t2 = .double)) (hn1 : ("[" ++ t1.toString, name) ∈ zNs) (hn2 : ("[" ++ t2.toString, name) ∈ zNs) (hlink : Cond.classLink own index name ∈ lw_all) (hdg : decode cc pc = .ok (.instanceof index, 3))
    (k : W p l e R s m args below meth c H locs cells slots Q (F0 m (pc + 3) ls (.int 0 :: rest))) : W p l e R s m args below meth c H locs cells slots Q (F0 m pc ls (va_rf r :: rest)) := by
  cases r with
  | none => exact lv_instN hC.x hC.b hdg k
  | some w =>
    obtain ⟨h1, x, h2 | h2⟩ := hr w rfl
    · exact z_instAN hC hZ h2 h1 hk1 hlink hn1 hdg k
    · exact z_instAN hC hZ h2 h1 hk2 hlink hn2 hdg k
/-- a switch's other cases -/
theorem z_tableK {dflt lo hi : Int} {offs : Array Int} {len : Nat} {x : Int32} {tgt : Nat} (S : List Int) (hexec : p.tables.exec = Jvm.exec) (hb : c.code = cc) (hdg : decode cc pc = .ok (.tableswitch dflt lo hi offs, len)) (ht : (pc : Int) + dflt = (tgt : Int)) (hlen : hi - lo + 1 = offs.size) (hg : (List.range offs.size).all (fun j => decide ((lo + (j : Int)) ∈ S) || decide (offs[j]? = some dflt)) = true) (hne : ∀ v ∈ S, ¬ x.toInt = v)
    (k : W p l e R s m args below meth c H locs cells slots Q (F0 m tgt ls rest)) : W p l e R s m args below meth c H locs cells slots Q (F0 m pc ls (.int x :: rest)) := by
  by_cases h : x.toInt < lo ∨ hi < x.toInt
  · exact lv_tableOut hexec hb hdg h ht k
  · have h1 : ¬ x.toInt < lo := fun q => h (Or.inl q)
    have h2 : ¬ hi < x.toInt := fun q => h (Or.inr q)
    have hj : (x.toInt - lo).toNat < offs.size := by omega
    have hg1 := List.all_eq_true.mp hg (x.toInt - lo).toNat (List.mem_range.mpr hj)
    rcases (Bool.or_eq_true _ _).mp hg1 with q | q
    · have q1 := of_decide_eq_true q
      have e1 : lo + (((x.toInt - lo).toNat : Nat) : Int) = x.toInt := by omega
      rw [e1] at q1
      exact absurd rfl (hne _ q1)
    · exact lv_tableIn hexec hb hdg h1 h2 (of_decide_eq_true q) ht k
/-- calls, by what they answer -/
theorem z_callI {post : Int32 → zM → Prop} {xp : Nat → zM → Prop} {aa : Array Value} {mc ms : Nat} (hZ : zS D M H locs) (hr : vx_Run p l e R s m args below meth c H locs cells slots mc ms (F0 m pc ls st) rest (zQ D zI post aa) (zX D xp) (zA D))
    (kk : ∀ (r : Int32) (M1 : zM) (H1 : Heap) (locs1 : List Loc), post r M1 → zS D M1 H1 locs1 → W p l e R s m args below meth c H1 locs1 (cells + mc) (slots + ms) Q (F0 m (pc + 3) ls (.int r :: rest)))
    (kx : ∀ (q : Nat) (M1 : zM) (H1 : Heap) (locs1 : List Loc) (ci : Nat) (fs : List Value) (E : String) (T : u_T) (N : Nat), xp q M1 → zS D M1 H1 locs1 → zCl[ci]? = some (E, T, N) → M1 q = some (.inr (ci, fs)) → zB D ≤ q → vx_W p l e R s m args below meth c H1 locs1 (cells + mc) (slots + ms) Q (F0 m pc ls rest) q) :
    W p l e R s m args below meth c H locs cells slots Q (F0 m pc ls st) := z_call hZ hr kk kx
theorem z_callL {post : Int64 → zM → Prop} {xp : Nat → zM → Prop} {aa : Array Value} {mc ms : Nat} (hZ : zS D M H locs) (hr : vx_Run p l e R s m args below meth c H locs cells slots mc ms (F0 m pc ls st) rest (zQ D zL post aa) (zX D xp) (zA D))
    (kk : ∀ (r : Int64) (M1 : zM) (H1 : Heap) (locs1 : List Loc), post r M1 → zS D M1 H1 locs1 → W p l e R s m args below meth c H1 locs1 (cells + mc) (slots + ms) Q (F0 m (pc + 3) ls (.long r :: rest)))
    (kx : ∀ (q : Nat) (M1 : zM) (H1 : Heap) (locs1 : List Loc) (ci : Nat) (fs : List Value) (E : String) (T : u_T) (N : Nat), xp q M1 → zS D M1 H1 locs1 → zCl[ci]? = some (E, T, N) → M1 q = some (.inr (ci, fs)) → zB D ≤ q → vx_W p l e R s m args below meth c H1 locs1 (cells + mc) (slots + ms) Q (F0 m pc ls rest) q) :
    W p l e R s m args below meth c H locs cells slots Q (F0 m pc ls st) := z_call hZ hr kk kx
theorem z_callD {post : UInt64 → zM → Prop} {xp : Nat → zM → Prop} {aa : Array Value} {mc ms : Nat} (hZ : zS D M H locs) (hr : vx_Run p l e R s m args below meth c H locs cells slots mc ms (F0 m pc ls st) rest (zQ D zDb post aa) (zX D xp) (zA D))
    (kk : ∀ (r : UInt64) (M1 : zM) (H1 : Heap) (locs1 : List Loc), post r M1 → zS D M1 H1 locs1 → W p l e R s m args below meth c H1 locs1 (cells + mc) (slots + ms) Q (F0 m (pc + 3) ls (.double r :: rest)))
    (kx : ∀ (q : Nat) (M1 : zM) (H1 : Heap) (locs1 : List Loc) (ci : Nat) (fs : List Value) (E : String) (T : u_T) (N : Nat), xp q M1 → zS D M1 H1 locs1 → zCl[ci]? = some (E, T, N) → M1 q = some (.inr (ci, fs)) → zB D ≤ q → vx_W p l e R s m args below meth c H1 locs1 (cells + mc) (slots + ms) Q (F0 m pc ls rest) q) :
    W p l e R s m args below meth c H locs cells slots Q (F0 m pc ls st) := z_call hZ hr kk kx
theorem z_callR {post : Option Nat → zM → Prop} {xp : Nat → zM → Prop} {aa : Array Value} {mc ms : Nat} (hZ : zS D M H locs) (hr : vx_Run p l e R s m args below meth c H locs cells slots mc ms (F0 m pc ls st) rest (zQ D zR post aa) (zX D xp) (zA D))
    (kk : ∀ (r : Option Nat) (M1 : zM) (H1 : Heap) (locs1 : List Loc), post r M1 → zS D M1 H1 locs1 → W p l e R s m args below meth c H1 locs1 (cells + mc) (slots + ms) Q (F0 m (pc + 3) ls (va_rf r :: rest)))
    (kx : ∀ (q : Nat) (M1 : zM) (H1 : Heap) (locs1 : List Loc) (ci : Nat) (fs : List Value) (E : String) (T : u_T) (N : Nat), xp q M1 → zS D M1 H1 locs1 → zCl[ci]? = some (E, T, N) → M1 q = some (.inr (ci, fs)) → zB D ≤ q → vx_W p l e R s m args below meth c H1 locs1 (cells + mc) (slots + ms) Q (F0 m pc ls rest) q) :
    W p l e R s m args below meth c H locs cells slots Q (F0 m pc ls st) := z_call hZ hr kk kx
theorem z_callU {post : Unit → zM → Prop} {xp : Nat → zM → Prop} {aa : Array Value} {mc ms : Nat} (hZ : zS D M H locs) (hr : vx_Run p l e R s m args below meth c H locs cells slots mc ms (F0 m pc ls st) rest (zQ D zU post aa) (zX D xp) (zA D))
    (kk : ∀ (r : Unit) (M1 : zM) (H1 : Heap) (locs1 : List Loc), post r M1 → zS D M1 H1 locs1 → W p l e R s m args below meth c H1 locs1 (cells + mc) (slots + ms) Q (F0 m (pc + 3) ls rest))
    (kx : ∀ (q : Nat) (M1 : zM) (H1 : Heap) (locs1 : List Loc) (ci : Nat) (fs : List Value) (E : String) (T : u_T) (N : Nat), xp q M1 → zS D M1 H1 locs1 → zCl[ci]? = some (E, T, N) → M1 q = some (.inr (ci, fs)) → zB D ≤ q → vx_W p l e R s m args below meth c H1 locs1 (cells + mc) (slots + ms) Q (F0 m pc ls rest) q) :
    W p l e R s m args below meth c H locs cells slots Q (F0 m pc ls st) := z_call hZ hr kk kx
/-- calls through an interface -/
theorem z_call5 {α : Type} {inj : α → Option Value} {post : α → zM → Prop} {xp : Nat → zM → Prop} {aa : Array Value} {mc ms : Nat} (hZ : zS D M H locs)
    (hr : vx_Run5 p l e R s m args below meth c H locs cells slots mc ms (F0 m pc ls st) rest (zQ D inj post aa) (zX D xp) (zA D))
    (kk : ∀ (r : α) (M1 : zM) (H1 : Heap) (locs1 : List Loc), post r M1 → zS D M1 H1 locs1 → W p l e R s m args below meth c H1 locs1 (cells + mc) (slots + ms) Q (F0 m (pc + 5) ls ((inj r).toList ++ rest)))
    (kx : ∀ (q : Nat) (M1 : zM) (H1 : Heap) (locs1 : List Loc) (ci : Nat) (fs : List Value) (E : String) (T : u_T) (N : Nat), xp q M1 → zS D M1 H1 locs1 → zCl[ci]? = some (E, T, N) → M1 q = some (.inr (ci, fs)) → zB D ≤ q → vx_W p l e R s m args below meth c H1 locs1 (cells + mc) (slots + ms) Q (F0 m pc ls rest) q) :
    W p l e R s m args below meth c H locs cells slots Q (F0 m pc ls st) := by
  intro T hT X
  rcases hr T hT X with ⟨v, st₀, t, T', L, h0, X', hL, e1, e2, ⟨r, M', hv, hp, hz⟩, hg⟩ | ⟨q, st₀, t, T', L, E, ce, h0, X', hL, e1, e2, ⟨M', ci, fs, T9, N, hc, hM, hb, hp, hz⟩, -, -, -, hg⟩
  · cases hv
    obtain ⟨t2, a1, b1⟩ := kk r M' T'.heap (locs ++ L) hp ⟨by rw [e1]; exact hz, fun x hx => (List.mem_append.mp hx).elim (hZ.2 x) (hL x)⟩ T' rfl X'
    exact ⟨t2, hg t2 a1, b1⟩
  · obtain ⟨t2, a1, b1⟩ := kx q M' T'.heap (locs ++ L) ci fs E T9 N hp ⟨by rw [e1]; exact hz, fun x hx => (List.mem_append.mp hx).elim (hZ.2 x) (hL x)⟩ hc hM hb T' rfl X'
    exact ⟨t2, hg.trans a1, b1⟩
theorem z_callI5 {post : Int32 → zM → Prop} {xp : Nat → zM → Prop} {aa : Array Value} {mc ms : Nat} (hZ : zS D M H locs) (hr : vx_Run5 p l e R s m args below meth c H locs cells slots mc ms (F0 m pc ls st) rest (zQ D zI post aa) (zX D xp) (zA D))
    (kk : ∀ (r : Int32) (M1 : zM) (H1 : Heap) (locs1 : List Loc), post r M1 → zS D M1 H1 locs1 → W p l e R s m args below meth c H1 locs1 (cells + mc) (slots + ms) Q (F0 m (pc + 5) ls (.int r :: rest)))
    (kx : ∀ (q : Nat) (M1 : zM) (H1 : Heap) (locs1 : List Loc) (ci : Nat) (fs : List Value) (E : String) (T : u_T) (N : Nat), xp q M1 → zS D M1 H1 locs1 → zCl[ci]? = some (E, T, N) → M1 q = some (.inr (ci, fs)) → zB D ≤ q → vx_W p l e R s m args below meth c H1 locs1 (cells + mc) (slots + ms) Q (F0 m pc ls rest) q) :
    W p l e R s m args below meth c H locs cells slots Q (F0 m pc ls st) := z_call5 hZ hr kk kx
theorem z_callL5 {post : Int64 → zM → Prop} {xp : Nat → zM → Prop} {aa : Array Value} {mc ms : Nat} (hZ : zS D M H locs) (hr : vx_Run5 p l e R s m args below meth c H locs cells slots mc ms (F0 m pc ls st) rest (zQ D zL post aa) (zX D xp) (zA D))
    (kk : ∀ (r : Int64) (M1 : zM) (H1 : Heap) (locs1 : List Loc), post r M1 → zS D M1 H1 locs1 → W p l e R s m args below meth c H1 locs1 (cells + mc) (slots + ms) Q (F0 m (pc + 5) ls (.long r :: rest)))
    (kx : ∀ (q : Nat) (M1 : zM) (H1 : Heap) (locs1 : List Loc) (ci : Nat) (fs : List Value) (E : String) (T : u_T) (N : Nat), xp q M1 → zS D M1 H1 locs1 → zCl[ci]? = some (E, T, N) → M1 q = some (.inr (ci, fs)) → zB D ≤ q → vx_W p l e R s m args below meth c H1 locs1 (cells + mc) (slots + ms) Q (F0 m pc ls rest) q) :
    W p l e R s m args below meth c H locs cells slots Q (F0 m pc ls st) := z_call5 hZ hr kk kx
theorem z_callR5 {post : Option Nat → zM → Prop} {xp : Nat → zM → Prop} {aa : Array Value} {mc ms : Nat} (hZ : zS D M H locs) (hr : vx_Run5 p l e R s m args below meth c H locs cells slots mc ms (F0 m pc ls st) rest (zQ D zR post aa) (zX D xp) (zA D))
    (kk : ∀ (r : Option Nat) (M1 : zM) (H1 : Heap) (locs1 : List Loc), post r M1 → zS D M1 H1 locs1 → W p l e R s m args below meth c H1 locs1 (cells + mc) (slots + ms) Q (F0 m (pc + 5) ls (va_rf r :: rest)))
    (kx : ∀ (q : Nat) (M1 : zM) (H1 : Heap) (locs1 : List Loc) (ci : Nat) (fs : List Value) (E : String) (T : u_T) (N : Nat), xp q M1 → zS D M1 H1 locs1 → zCl[ci]? = some (E, T, N) → M1 q = some (.inr (ci, fs)) → zB D ≤ q → vx_W p l e R s m args below meth c H1 locs1 (cells + mc) (slots + ms) Q (F0 m pc ls rest) q) :
    W p l e R s m args below meth c H locs cells slots Q (F0 m pc ls st) := z_call5 hZ hr kk kx
theorem z_callU5 {post : Unit → zM → Prop} {xp : Nat → zM → Prop} {aa : Array Value} {mc ms : Nat} (hZ : zS D M H locs) (hr : vx_Run5 p l e R s m args below meth c H locs cells slots mc ms (F0 m pc ls st) rest (zQ D zU post aa) (zX D xp) (zA D))
    (kk : ∀ (r : Unit) (M1 : zM) (H1 : Heap) (locs1 : List Loc), post r M1 → zS D M1 H1 locs1 → W p l e R s m args below meth c H1 locs1 (cells + mc) (slots + ms) Q (F0 m (pc + 5) ls rest))
    (kx : ∀ (q : Nat) (M1 : zM) (H1 : Heap) (locs1 : List Loc) (ci : Nat) (fs : List Value) (E : String) (T : u_T) (N : Nat), xp q M1 → zS D M1 H1 locs1 → zCl[ci]? = some (E, T, N) → M1 q = some (.inr (ci, fs)) → zB D ≤ q → vx_W p l e R s m args below meth c H1 locs1 (cells + mc) (slots + ms) Q (F0 m pc ls rest) q) :
    W p l e R s m args below meth c H locs cells slots Q (F0 m pc ls st) := z_call5 hZ hr kk kx
theorem z_bytes {x k : Nat} (h : x ≤ 1000000) (hk : k ≤ 8) : x * k ≤ 536870912 := by
  have := Nat.mul_le_mul h hk
  omega
theorem zdefs {N : Nat} {ty : Nat → FieldType} {fs : List Value} (h : (List.range N).all (fun j => decide (defaultValue (ty j) = vp_V fs j)) = true) : ∀ j, j < N → defaultValue (ty j) = vp_V fs j := fun j hj => of_decide_eq_true (List.all_eq_true.mp h j (List.mem_range.mpr hj))
theorem z_cl {ci : Nat} (h : ci < 31) : ∃ (E : String) (T : u_T) (N : Nat), zCl[ci]? = some (E, T, N) := by
  have h1 : ci < zCl.length := h
  exact ⟨(zCl[ci]).1, (zCl[ci]).2.1, (zCl[ci]).2.2, List.getElem?_eq_getElem h1⟩
theorem z_selP {y : MethodName} {C : String} {n k : Nat} (hy : y.cls ≠ "java/lang/invoke/MethodHandle" ∧ y.cls ≠ "java/lang/invoke/VarHandle") (hC : (Cond.instantiable C n).before args s = true) (hins : (Cond.instantiable y.cls k).before args s = true) (hpriv : (Cond.privateMethod y).before args s = true) (hinst : (Cond.instanceMethod y).before args s = true) : (Cond.selects C y y).before args s = true := by
  obtain ⟨cC, kC, hcC, hkC, -, -, -, -⟩ := Cond.instantiable_spec hC
  obtain ⟨c, k, hc, hk, -, hniab, -, -⟩ := Cond.instantiable_spec hins
  have hni : k.isInterface = false := (Bool.or_eq_false_iff.mp hniab).1
  obtain ⟨mk, methM, hnamed, hmethM, -, -⟩ := Cond.instanceMethod_spec hinst
  have hfound : s.methodFound? y.cls y.name y.desc = some mk := State.methodFound?_of_named hnamed hy
  have hcls : mk.cls = c := Option.some.inj ((findClass_of_methodNamed hnamed).symm.trans hc)
  have hsel : selectMethod {} s.vm cC mk = .method mk := selectMethod_private hmethM (Cond.privateMethod_at hpriv mk methM hnamed hmethM)
  simp only [Cond.before, Cond.holds, Cond.value, hcC, hfound, hnamed, hsel, hcls, hk]
  simp; exact hni
theorem z_ldcSw {tx : String} {index i : Nat} (hC : zCx p s m args c cc nL own D) (hi : zStr[i]? = some (own, index, tx)) (hdg : decode cc pc = .ok (.ldc_w index, 3))
    (k : W p l e R s m args below meth c H locs cells slots Q (F0 m (pc + 3) ls (.ref (D.2.2.2 (10 + i)) :: rest))) : W p l e R s m args below meth c H locs cells slots Q (F0 m pc ls rest) := by
  have hR := hC.K.2.2.2.2.2.2.2.1 i _ hi
  intro T hT X
  obtain ⟨t, a1, b1⟩ := k T hT X
  exact ⟨t, X.ldcStringW hC.x (own := own) (text := tx) (index := index) (a := D.2.2.2 (10 + i)) hC.o hR.1 hR.2 (g := F0 m pc ls rest) rfl (by rw [hC.b]; exact hdg) t a1, b1⟩
end ZW
