/-! Z-KIT 2: rows over the map -/
set_option maxRecDepth 100000
/-- what every row of a method's walk stands on -/
def zCx (p : Program) (s : State) (m : MethodId) (args : Array Value) (c : Code) (cc : ByteArray) (nL : Nat) (own : String) (D : zD) : Prop :=
  p.tables.exec = Jvm.exec ∧ c.code = cc ∧ c.maxLocals = nL ∧ s.vm.findClass own = some m.cls ∧ (∀ w ∈ lw_all, w.before args s = true) ∧ zK D s
theorem zcat (r : Option Nat) : (va_rf r).category = 1 := by cases r <;> rfl
section ZR
variable {p : Program} {l : Launch} {e : Env} {R : Room} {s : State} {m : MethodId} {args : Array Value} {below : List Frame} {meth : Method} {c : Code} {H : Heap} {locs : List Loc} {cells slots : Nat} {Q : State → Prop}
variable {cc : ByteArray} {nL pc : Nat} {ls : Array Slot} {rest : List Value} {D : zD} {M : zM} {own : String} {a : Nat}

theorem zCx.x (h : zCx p s m args c cc nL own D) : p.tables.exec = Jvm.exec := h.1
theorem zCx.b (h : zCx p s m args c cc nL own D) : c.code = cc := h.2.1
theorem zCx.ml (h : zCx p s m args c cc nL own D) : c.maxLocals = nL := h.2.2.1
theorem zCx.o (h : zCx p s m args c cc nL own D) : s.vm.findClass own = some m.cls := h.2.2.2.1
theorem zCx.ts (h : zCx p s m args c cc nL own D) : ∀ w ∈ lw_all, w.before args s = true := h.2.2.2.2.1
theorem zCx.K (h : zCx p s m args c cc nL own D) : zK D s := h.2.2.2.2.2
theorem zCx.vK (h : zCx p s m args c cc nL own D) : va_K D.1 zCl (zTys D) s := h.K.1
theorem zCx.nw (h : zCx p s m args c cc nL own D) {w : Cond} (hw : w ∈ lw_tbl) (hz : zNw w = true) : va_Nw w s := h.K.2.1 w hw hz
theorem zCx.nwu (h : zCx p s m args c cc nL own D) {w : Cond} (hw : w ∈ lw_tbl) (hz : zNw w = true) : w.before args s = true := va_Nw.use (zNw_on hz) (h.nw hw hz)
theorem zCx.alike (h : zCx p s m args c cc nL own D) : D.2.2.1.vm.Alike s.vm := h.K.2.2.2.2.2.2.2.2.2
theorem zS.cell {y : zV} (hZ : zS D M H locs) (hM : M a = some y) : zat D a y H := hZ.1.1 _ _ hM
/-- an array's cell, as reads need it -/
theorem zat_a {y : Nat × vp_A} (hC : zCx p s m args c cc nL own D) (hk : y.1 < 11) (h : zat D a (.inl y) H) : ∃ cell : Cell, H[a]? = some cell ∧ s.isArrayOf cell (zTy y.1) ∧ cell.vm ≠ .unknown ∧ cell.slots.size = y.2.1 ∧ ∀ j : Nat, j < y.2.1 → cell.slots[j]? = some (zav y.2 j) := by
  by_cases hb : zB D ≤ a
  · rw [zat_arr hb, zav_cell] at h
    have ht : (zTys D)[y.1]? = some (D.2.1 y.1, zTy y.1) := by
      obtain ⟨k, x⟩ := y
      dsimp only at hk ⊢
      match k, hk with
      | 0, _ => rfl
      | 1, _ => rfl
      | 2, _ => rfl
      | 3, _ => rfl
      | 4, _ => rfl
      | 5, _ => rfl
      | 6, _ => rfl
      | 7, _ => rfl
      | 8, _ => rfl
      | 9, _ => rfl
      | 10, _ => rfl
    exact ⟨_, h, (hC.vK.2 _ _ ht).1 _ _, (fun q => by cases q), arrV_size _ _ _, fun j hj => arrV_read _ _ hj⟩
  · unfold zat at h
    dsimp only at h
    rw [if_neg hb] at h
    obtain ⟨cell, h1, h2, h3⟩ := h
    exact ⟨cell, h1, State.isArrayOf_alike hC.alike h2, h3⟩
theorem z_alen {y : Nat × vp_A} (hC : zCx p s m args c cc nL own D) (hZ : zS D M H locs) (hM : M a = some (.inl y)) (hk : y.1 < 11) (hdg : decode cc pc = .ok (.arraylength, 1))
    (kk : W p l e R s m args below meth c H locs cells slots Q (F0 m (pc + 1) ls (.int (Int32.ofNat y.2.1) :: rest))) : W p l e R s m args below meth c H locs cells slots Q (F0 m pc ls (.ref a :: rest)) := by
  obtain ⟨cell, h1, h2, h3, h4, h5⟩ := zat_a hC hk (hZ.cell hM)
  exact W.alen (n := Int32.ofNat y.2.1) hC.x hC.b h1 h2 (by rw [h4] <;> rfl) rfl rfl hdg kk
theorem z_iald {n : Nat} {f : Nat → Int32} {i : Int32} (hC : zCx p s m args c cc nL own D) (hZ : zS D M H locs) (hM : M a = some (.inl (0, n, .inl f))) (hin : vp_in i n) (hdg : decode cc pc = .ok (.iaload, 1))
    (kk : W p l e R s m args below meth c H locs cells slots Q (F0 m (pc + 1) ls (.int (f i.toNatClampNeg) :: rest))) : W p l e R s m args below meth c H locs cells slots Q (F0 m pc ls (.int i :: .ref a :: rest)) := by
  obtain ⟨cell, h1, h2, h3, h4, h5⟩ := zat_a hC (Nat.le_of_ble_eq_true rfl) (hZ.cell hM)
  have hlt : i.toNatClampNeg < n := Nat.not_le.mp fun q => hin (Or.inr q)
  exact W.iald (v := .int (f i.toNatClampNeg)) hC.x hC.b h1 h2 h3 (by rw [h4]; exact hin) (h5 _ hlt) rfl rfl hdg kk
theorem z_bald {n : Nat} {f : Nat → Int32} {i : Int32} (hC : zCx p s m args c cc nL own D) (hZ : zS D M H locs) (hM : M a = some (.inl (1, n, .inl f))) (hin : vp_in i n) (hdg : decode cc pc = .ok (.baload, 1))
    (kk : W p l e R s m args below meth c H locs cells slots Q (F0 m (pc + 1) ls (.int (f i.toNatClampNeg) :: rest))) : W p l e R s m args below meth c H locs cells slots Q (F0 m pc ls (.int i :: .ref a :: rest)) := by
  obtain ⟨cell, h1, h2, h3, h4, h5⟩ := zat_a hC (Nat.le_of_ble_eq_true rfl) (hZ.cell hM)
  have hlt : i.toNatClampNeg < n := Nat.not_le.mp fun q => hin (Or.inr q)
  exact W.bald (v := .int (f i.toNatClampNeg)) hC.x hC.b h1 h2 h3 (by rw [h4]; exact hin) (h5 _ hlt) rfl rfl hdg kk
theorem z_lald {n : Nat} {f : Nat → Int64} {i : Int32} (hC : zCx p s m args c cc nL own D) (hZ : zS D M H locs) (hM : M a = some (.inl (2, n, .inr (.inl f)))) (hin : vp_in i n) (hdg : decode cc pc = .ok (.laload, 1))
    (kk : W p l e R s m args below meth c H locs cells slots Q (F0 m (pc + 1) ls (.long (f i.toNatClampNeg) :: rest))) : W p l e R s m args below meth c H locs cells slots Q (F0 m pc ls (.int i :: .ref a :: rest)) := by
  obtain ⟨cell, h1, h2, h3, h4, h5⟩ := zat_a hC (Nat.le_of_ble_eq_true rfl) (hZ.cell hM)
  have hlt : i.toNatClampNeg < n := Nat.not_le.mp fun q => hin (Or.inr q)
  exact W.lald (v := .long (f i.toNatClampNeg)) hC.x hC.b h1 h2 h3 (by rw [h4]; exact hin) (h5 _ hlt) rfl rfl hdg kk
theorem z_fald {n : Nat} {f : Nat → UInt32} {i : Int32} (hC : zCx p s m args c cc nL own D) (hZ : zS D M H locs) (hM : M a = some (.inl (3, n, .inr (.inr (.inl f))))) (hin : vp_in i n) (hdg : decode cc pc = .ok (.faload, 1))
    (kk : W p l e R s m args below meth c H locs cells slots Q (F0 m (pc + 1) ls (.float (f i.toNatClampNeg) :: rest))) : W p l e R s m args below meth c H locs cells slots Q (F0 m pc ls (.int i :: .ref a :: rest)) := by
  obtain ⟨cell, h1, h2, h3, h4, h5⟩ := zat_a hC (Nat.le_of_ble_eq_true rfl) (hZ.cell hM)
  have hlt : i.toNatClampNeg < n := Nat.not_le.mp fun q => hin (Or.inr q)
  exact W.fald (v := .float (f i.toNatClampNeg)) hC.x hC.b h1 h2 h3 (by rw [h4]; exact hin) (h5 _ hlt) rfl rfl hdg kk
theorem z_dald {n : Nat} {f : Nat → UInt64} {i : Int32} (hC : zCx p s m args c cc nL own D) (hZ : zS D M H locs) (hM : M a = some (.inl (4, n, .inr (.inr (.inr (.inl f)))))) (hin : vp_in i n) (hdg : decode cc pc = .ok (.daload, 1))
    (kk : W p l e R s m args below meth c H locs cells slots Q (F0 m (pc + 1) ls (.double (f i.toNatClampNeg) :: rest))) : W p l e R s m args below meth c H locs cells slots Q (F0 m pc ls (.int i :: .ref a :: rest)) := by
  obtain ⟨cell, h1, h2, h3, h4, h5⟩ := zat_a hC (Nat.le_of_ble_eq_true rfl) (hZ.cell hM)
  have hlt : i.toNatClampNeg < n := Nat.not_le.mp fun q => hin (Or.inr q)
  exact W.dald (v := .double (f i.toNatClampNeg)) hC.x hC.b h1 h2 h3 (by rw [h4]; exact hin) (h5 _ hlt) rfl rfl hdg kk
theorem z_aald {k n : Nat} {f : Nat → Option Nat} {i : Int32} {r : Option Nat} (hC : zCx p s m args c cc nL own D) (hZ : zS D M H locs) (hM : M a = some (.inl (k, n, .inr (.inr (.inr (.inr f)))))) (hk : k < 11) (hty : (zTy k).isReference = true) (hin : vp_in i n) (hr : f i.toNatClampNeg = r) (hdg : decode cc pc = .ok (.aaload, 1))
    (kk : W p l e R s m args below meth c H locs cells slots Q (F0 m (pc + 1) ls (va_rf r :: rest))) : W p l e R s m args below meth c H locs cells slots Q (F0 m pc ls (.int i :: .ref a :: rest)) := by
  subst hr
  obtain ⟨cell, h1, h2, h3, h4, h5⟩ := zat_a hC hk (hZ.cell hM)
  have hlt : i.toNatClampNeg < n := Nat.not_le.mp fun q => hin (Or.inr q)
  exact W.aald (v := va_rf (f i.toNatClampNeg)) hC.x hC.b h1 h2 hty h3 (by rw [h4]; exact hin) (h5 _ hlt) rfl rfl hdg kk
theorem z_iast {n : Nat} {f : Nat → Int32} {i : Int32} {x : Int32} (hC : zCx p s m args c cc nL own D) (hZ : zS D M H locs) (hM : M a = some (.inl (0, n, .inl f))) (hb0 : zB D ≤ a) (hin : vp_in i n) (hdg : decode cc pc = .ok (.iastore, 1))
    (kk : ∀ (H1 : Heap) (locs1 : List Loc), zS D (zu M a (some (.inl (0, n, .inl (upd f i.toNatClampNeg x))))) H1 locs1 → W p l e R s m args below meth c H1 locs1 cells slots Q (F0 m (pc + 1) ls (rest))) : W p l e R s m args below meth c H locs cells slots Q (F0 m pc ls (.int x :: .int i :: .ref a :: rest)) := by
  have hcell := (zat_arr hb0).mp (hZ.cell hM)
  have hA := (hC.vK.2 0 _ rfl).1 n (fun j => .int (f j))
  refine W.iast hC.x hC.b hcell hA (fun q => by cases q) (by show ¬ (i < 0 ∨ (arrV _ _ _).slots.size ≤ _); rw [arrV_size]; exact hin) rfl rfl hdg fun H1 e z oq => ?_
  refine kk H1 _ (zS_put hZ hb0 ((zat_arr hb0).mpr ?_) z oq)
  rw [e]
  dsimp only
  rw [vp_cell_i, vp_cell_i, arrV_store]
  congr 2
  funext q
  by_cases hq : q = i.toNatClampNeg
  · subst hq
    simp [updV, upd]
    try rfl
  · simp [updV, upd, hq]
theorem z_bast {n : Nat} {f : Nat → Int32} {i : Int32} {x : Int32} (hC : zCx p s m args c cc nL own D) (hZ : zS D M H locs) (hM : M a = some (.inl (1, n, .inl f))) (hb0 : zB D ≤ a) (hin : vp_in i n) (hdg : decode cc pc = .ok (.bastore, 1))
    (kk : ∀ (H1 : Heap) (locs1 : List Loc), zS D (zu M a (some (.inl (1, n, .inl (upd f i.toNatClampNeg (vp_nar .byte x)))))) H1 locs1 → W p l e R s m args below meth c H1 locs1 cells slots Q (F0 m (pc + 1) ls (rest))) : W p l e R s m args below meth c H locs cells slots Q (F0 m pc ls (.int x :: .int i :: .ref a :: rest)) := by
  have hcell := (zat_arr hb0).mp (hZ.cell hM)
  have hA := (hC.vK.2 1 _ rfl).1 n (fun j => .int (f j))
  refine W.bast hC.x hC.b hcell hA (fun q => by cases q) (by show ¬ (i < 0 ∨ (arrV _ _ _).slots.size ≤ _); rw [arrV_size]; exact hin) rfl rfl hdg fun H1 e z oq => ?_
  refine kk H1 _ (zS_put hZ hb0 ((zat_arr hb0).mpr ?_) z oq)
  rw [e]
  dsimp only
  rw [vp_cell_i, vp_cell_i, arrV_store]
  congr 2
  funext q
  by_cases hq : q = i.toNatClampNeg
  · subst hq
    simp [updV, upd, vp_nar]
    try rfl
  · simp [updV, upd, vp_nar, hq]
theorem z_last {n : Nat} {f : Nat → Int64} {i : Int32} {x : Int64} (hC : zCx p s m args c cc nL own D) (hZ : zS D M H locs) (hM : M a = some (.inl (2, n, .inr (.inl f)))) (hb0 : zB D ≤ a) (hin : vp_in i n) (hdg : decode cc pc = .ok (.lastore, 1))
    (kk : ∀ (H1 : Heap) (locs1 : List Loc), zS D (zu M a (some (.inl (2, n, .inr (.inl (vp_updL f i.toNatClampNeg x)))))) H1 locs1 → W p l e R s m args below meth c H1 locs1 cells slots Q (F0 m (pc + 1) ls (rest))) : W p l e R s m args below meth c H locs cells slots Q (F0 m pc ls (.long x :: .int i :: .ref a :: rest)) := by
  have hcell := (zat_arr hb0).mp (hZ.cell hM)
  have hA := (hC.vK.2 2 _ rfl).1 n (fun j => .long (f j))
  refine W.last hC.x hC.b hcell hA (fun q => by cases q) (by show ¬ (i < 0 ∨ (arrV _ _ _).slots.size ≤ _); rw [arrV_size]; exact hin) rfl rfl hdg fun H1 e z oq => ?_
  refine kk H1 _ (zS_put hZ hb0 ((zat_arr hb0).mpr ?_) z oq)
  rw [e]
  dsimp only
  rw [vp_cell_l, vp_cell_l, arrV_store]
  congr 2
  funext q
  by_cases hq : q = i.toNatClampNeg
  · subst hq
    simp [updV, vp_updL]
    try rfl
  · simp [updV, vp_updL, hq]
theorem z_fast {n : Nat} {f : Nat → UInt32} {i : Int32} {x : UInt32} (hC : zCx p s m args c cc nL own D) (hZ : zS D M H locs) (hM : M a = some (.inl (3, n, .inr (.inr (.inl f))))) (hb0 : zB D ≤ a) (hin : vp_in i n) (hdg : decode cc pc = .ok (.fastore, 1))
    (kk : ∀ (H1 : Heap) (locs1 : List Loc), zS D (zu M a (some (.inl (3, n, .inr (.inr (.inl (vf_upd f i.toNatClampNeg x))))))) H1 locs1 → W p l e R s m args below meth c H1 locs1 cells slots Q (F0 m (pc + 1) ls (rest))) : W p l e R s m args below meth c H locs cells slots Q (F0 m pc ls (.float x :: .int i :: .ref a :: rest)) := by
  have hcell := (zat_arr hb0).mp (hZ.cell hM)
  have hA := (hC.vK.2 3 _ rfl).1 n (fun j => .float (f j))
  refine W.fast hC.x hC.b hcell hA (fun q => by cases q) (by show ¬ (i < 0 ∨ (arrV _ _ _).slots.size ≤ _); rw [arrV_size]; exact hin) rfl rfl hdg fun H1 e z oq => ?_
  refine kk H1 _ (zS_put hZ hb0 ((zat_arr hb0).mpr ?_) z oq)
  rw [e]
  dsimp only
  rw [vp_cell_f, vp_cell_f, arrV_store]
  congr 2
  funext q
  by_cases hq : q = i.toNatClampNeg
  · subst hq
    simp [updV, vf_upd]
    try rfl
  · simp [updV, vf_upd, hq]
theorem z_dast {n : Nat} {f : Nat → UInt64} {i : Int32} {x : UInt64} (hC : zCx p s m args c cc nL own D) (hZ : zS D M H locs) (hM : M a = some (.inl (4, n, .inr (.inr (.inr (.inl f)))))) (hb0 : zB D ≤ a) (hin : vp_in i n) (hdg : decode cc pc = .ok (.dastore, 1))
    (kk : ∀ (H1 : Heap) (locs1 : List Loc), zS D (zu M a (some (.inl (4, n, .inr (.inr (.inr (.inl (vf_upd f i.toNatClampNeg x)))))))) H1 locs1 → W p l e R s m args below meth c H1 locs1 cells slots Q (F0 m (pc + 1) ls (rest))) : W p l e R s m args below meth c H locs cells slots Q (F0 m pc ls (.double x :: .int i :: .ref a :: rest)) := by
  have hcell := (zat_arr hb0).mp (hZ.cell hM)
  have hA := (hC.vK.2 4 _ rfl).1 n (fun j => .double (f j))
  refine W.dast hC.x hC.b hcell hA (fun q => by cases q) (by show ¬ (i < 0 ∨ (arrV _ _ _).slots.size ≤ _); rw [arrV_size]; exact hin) rfl rfl hdg fun H1 e z oq => ?_
  refine kk H1 _ (zS_put hZ hb0 ((zat_arr hb0).mpr ?_) z oq)
  rw [e]
  dsimp only
  rw [vp_cell_d, vp_cell_d, arrV_store]
  congr 2
  funext q
  by_cases hq : q = i.toNatClampNeg
  · subst hq
    simp [updV, vf_upd]
    try rfl
  · simp [updV, vf_upd, hq]
/-- what the array takes: an object of a class that the tables say may lie there -/
theorem z_aast {k n ci : Nat} {f : Nat → Option Nat} {i : Int32} {v : Nat} {vs : List Value} {C E : String} {T : u_T} {N : Nat} {ty : Nat → FieldType} (hC : zCx p s m args c cc nL own D) (hZ : zS D M H locs) (hM : M a = some (.inl (k, n, .inr (.inr (.inr (.inr f)))))) (hb0 : zB D ≤ a) (ht : (zTys D)[k]? = some (D.2.1 k, .object E)) (hv : M v = some (.inr (ci, vs))) (hc : zCls ci C T N ty) (hcast : C = E ∨ va_Nw (.castable C E) s) (hin : vp_in i n) (hdg : decode cc pc = .ok (.aastore, 1))
    (kk : ∀ (H1 : Heap) (locs1 : List Loc), zS D (zu M a (some (.inl (k, n, .inr (.inr (.inr (.inr (va_up f i.toNatClampNeg (some v))))))))) H1 locs1 → W p l e R s m args below meth c H1 locs1 cells slots Q (F0 m (pc + 1) ls (rest))) : W p l e R s m args below meth c H locs cells slots Q (F0 m pc ls (.ref v :: .int i :: .ref a :: rest)) := by
  have hcell := (zat_arr hb0).mp (hZ.cell hM)
  have hlt : i.toNatClampNeg < n := Nat.not_le.mp fun q => hin (Or.inr q)
  have h0 : ¬ i < 0 := fun q => hin (Or.inl q)
  obtain ⟨r', hr', cellV, g1, g2, g3, -⟩ := zat_o (hZ.cell hv)
  have hcls := (hC.vK.1 ci _ hc.1).2
  obtain ⟨kA, comp, k1, k2, k3, -⟩ := (hC.vK.2 k _ ht).2
  obtain ⟨kC, hkC, -⟩ := hcls.2
  have hasg : s.vm.assignable (D.1.1 ci) comp = true := by
    rcases hcast with h | h
    · subst h
      have hcomp : comp = D.1.1 ci := Option.some.inj (k3.symm.trans hcls.1)
      rw [hcomp]
      exact va_assign hcls
    · obtain ⟨c0, t0, f1, f2, f3⟩ := Cond.castable_spec (va_Nw.use (A := args) rfl h)
      cases hcls.1.symm.trans f1
      cases k3.symm.trans f2
      exact f3
  obtain ⟨kE, hkE⟩ : ∃ kE, s.vm.classes[comp]? = some kE := by
    obtain ⟨kq, hq, -⟩ := Vm.findClass_spec k3
    exact ⟨kq, hq⟩
  refine W.aast hC.x hC.b hcell (fun q h => by cases h) (fun h => by cases h) k1 k2 rfl hkE ⟨h0, by show _ < (arrV _ _ _).slots.size; rw [arrV_size]; exact hlt⟩ g1 (fun q h => by rw [h] at g3; cases g3) (by rw [g2]; exact hkC) (by rw [g2]; exact hasg) rfl rfl hdg fun H1 e z oq => ?_
  refine kk H1 _ (zS_put hZ hb0 ((zat_arr hb0).mpr ?_) z oq)
  rw [e]
  dsimp only
  rw [vp_cell_q, vp_cell_q, arrV_store]
  congr 2
  funext q
  by_cases hq : q = i.toNatClampNeg
  · subst hq
    simp [updV, va_up, va_rf]
  · simp [updV, va_up, hq]
theorem z_aastN {k n : Nat} {f : Nat → Option Nat} {i : Int32} {E : String} (hC : zCx p s m args c cc nL own D) (hZ : zS D M H locs) (hM : M a = some (.inl (k, n, .inr (.inr (.inr (.inr f)))))) (hb0 : zB D ≤ a) (ht : (zTys D)[k]? = some (D.2.1 k, .object E)) (hin : vp_in i n) (hdg : decode cc pc = .ok (.aastore, 1))
    (kk : ∀ (H1 : Heap) (locs1 : List Loc), zS D (zu M a (some (.inl (k, n, .inr (.inr (.inr (.inr (va_up f i.toNatClampNeg none)))))))) H1 locs1 → W p l e R s m args below meth c H1 locs1 cells slots Q (F0 m (pc + 1) ls (rest))) : W p l e R s m args below meth c H locs cells slots Q (F0 m pc ls (.null :: .int i :: .ref a :: rest)) := by
  have hcell := (zat_arr hb0).mp (hZ.cell hM)
  refine va_WaastN (C := E) hC.x hC.b hcell ((hC.vK.2 k _ ht).1 n (fun j => va_rf (f j))) (fun h => by cases h) (by show ¬ (i < 0 ∨ (arrV _ _ _).slots.size ≤ _); rw [arrV_size]; exact hin) rfl rfl hdg fun H1 e z oq => ?_
  refine kk H1 _ (zS_put hZ hb0 ((zat_arr hb0).mpr ?_) z oq)
  rw [e]
  dsimp only
  rw [vp_cell_q, vp_cell_q, arrV_store]
  congr 2
  funext q
  by_cases hq : q = i.toNatClampNeg
  · subst hq
    simp [updV, va_up, va_rf]
  · simp [updV, va_up, hq]
theorem z_get {C ref : String} {T : u_T} {N ci index : Nat} {ty : Nat → FieldType} {fs : List Value} (hC : zCx p s m args c cc nL own D) (hZ : zS D M H locs) (hM : M a = some (.inr (ci, fs))) (hc : zCls ci C T N ty) (k : Nat) (hk : k < N) (hlink : Cond.fieldLink own index ref (T k).2.1 (T k).2.2.1 ∈ lw_all) (hsame : ∀ x, s.fieldFound? (T k).1 (T k).2.1 (T k).2.2.1 = some x → s.fieldFound? ref (T k).2.1 (T k).2.2.1 = some x) {v : Value} (hv : fs[k]? = some v) (hdg : decode cc pc = .ok (.getfield index, 3))
    (kk : W p l e R s m args below meth c H locs cells slots Q (F0 m (pc + 3) ls (v :: rest))) : W p l e R s m args below meth c H locs cells slots Q (F0 m pc ls (.ref a :: rest)) := by
  obtain ⟨r, h1, cell, q1, q2, q3, q3b, q4⟩ := zat_o (hZ.cell hM)
  have hr : r = (C, T, N) := Option.some.inj (h1.symm.trans hc.1)
  subst hr
  obtain ⟨hS, hfc, kC, hkC, hkind⟩ := hC.vK.1 ci _ hc.1
  obtain ⟨cf, kf, fi, f, hi, hsl⟩ := hS k hk
  refine W.getf hC.x hC.b hC.o (hC.ts _ hlink) (hsame _ hi) (u_facts hfc hkC (u_lays hC.ts hc.2.1 hk) hi).1 q1 q3b (v := v) ?_ rfl rfl hdg kk
  rw [hsl, q4 k hk]
  simp [vp_V, hv]
theorem z_getN {C ref : String} {T : u_T} {N ci index : Nat} {ty : Nat → FieldType} {fs : List Value} {host : String} (hC : zCx p s m args c cc nL own D) (hZ : zS D M H locs) (hM : M a = some (.inr (ci, fs))) (hc : zCls ci C T N ty) (k : Nat) (hk : k < N) (hlink : Cond.fieldLinkNest own index ref (T k).2.1 (T k).2.2.1 host ∈ lw_tbl) (hsame : ∀ x, s.fieldFound? (T k).1 (T k).2.1 (T k).2.2.1 = some x → s.fieldFound? ref (T k).2.1 (T k).2.2.1 = some x) {v : Value} (hv : fs[k]? = some v) (hdg : decode cc pc = .ok (.getfield index, 3))
    (kk : W p l e R s m args below meth c H locs cells slots Q (F0 m (pc + 3) ls (v :: rest))) : W p l e R s m args below meth c H locs cells slots Q (F0 m pc ls (.ref a :: rest)) := by
  obtain ⟨r, h1, cell, q1, q2, q3, q3b, q4⟩ := zat_o (hZ.cell hM)
  have hr : r = (C, T, N) := Option.some.inj (h1.symm.trans hc.1)
  subst hr
  obtain ⟨hS, hfc, kC, hkC, hkind⟩ := hC.vK.1 ci _ hc.1
  obtain ⟨cf, kf, fi, f, hi, hsl⟩ := hS k hk
  refine va_Wgetf hC.x hC.b hC.o (hC.nwu hlink rfl) (hsame _ hi) (u_facts hfc hkC (u_lays hC.ts hc.2.1 hk) hi).1 q1 q3b (v := v) ?_ rfl rfl hdg kk
  rw [hsl, q4 k hk]
  simp [vp_V, hv]
theorem z_put {C ref : String} {T : u_T} {N ci index : Nat} {ty : Nat → FieldType} {fs : List Value} (hC : zCx p s m args c cc nL own D) (hZ : zS D M H locs) (hM : M a = some (.inr (ci, fs))) (hb0 : zB D ≤ a) (hc : zCls ci C T N ty) (k : Nat) (hk : k < N) (hlink : Cond.fieldLink own index ref (T k).2.1 (T k).2.2.1 ∈ lw_all) (hsame : ∀ x, s.fieldFound? (T k).1 (T k).2.1 (T k).2.2.1 = some x → s.fieldFound? ref (T k).2.1 (T k).2.2.1 = some x) (hfin : (T k).2.2.2 = false) {v : Value} (hn : narrow (ty k) v = v) (hfit : fits (ty k) v = true) (hl : k < fs.length) (hdg : decode cc pc = .ok (.putfield index, 3))
    (kk : ∀ (H1 : Heap) (locs1 : List Loc), zS D (zu M a (some (.inr (ci, fs.set k v)))) H1 locs1 → W p l e R s m args below meth c H1 locs1 cells slots Q (F0 m (pc + 3) ls (rest))) : W p l e R s m args below meth c H locs cells slots Q (F0 m pc ls (v :: .ref a :: rest)) := by
  obtain ⟨hc1, hc2, hc3, hc4⟩ := hc
  have hap := va_apart (own := own) hC.ts hc2 ty hc3 hc4 hC.vK hc1
  obtain ⟨r, h1, cell, q1, q2, q3, q4⟩ := (zat_obj hb0).mp (hZ.cell hM)
  have hr : r = (C, T, N) := Option.some.inj (h1.symm.trans hc1)
  subst hr
  obtain ⟨hS, hfc, kC, hkC, hkind⟩ := hC.vK.1 ci _ hc1
  obtain ⟨cf, kf, fi, f, hi, hsl⟩ := hS k hk
  have hlay := hC.ts _ (hc2 _ (u_in_lay hk))
  unfold u_lay at hlay
  rw [if_neg (by rw [hfin]; decide)] at hlay
  have hst := (u_facts hfc hkC (u_lays hC.ts hc2 hk) hi).1
  have h6 := u_store hfc hkC hkind hlay hi (hc3 k hk) hn hfit
  refine W.putK hC.x hC.b (f := f) ⟨hC.o, hC.ts _ hlink, ⟨_, _, _, hsame _ hi⟩, hst⟩ (by rw [q2]; exact h6) q1 q3 (by rw [hsl]; exact k2_hasslot (q4 k hk)) rfl rfl hdg fun H' e1 e2 e3 => ?_
  rw [hsl] at e1 ⊢
  exact kk H' _ (zS_put hZ hb0 ((zat_obj hb0).mpr ⟨_, hc1, t_OB.to (V := updV (vp_V fs) k v) ⟨_, e1, q2, q3, t_set q4 hap hk v⟩ (fun j _ => vp_updV_set hl v j)⟩) e2 e3)
theorem z_putN {C ref : String} {T : u_T} {N ci index : Nat} {ty : Nat → FieldType} {fs : List Value} {host : String} (hC : zCx p s m args c cc nL own D) (hZ : zS D M H locs) (hM : M a = some (.inr (ci, fs))) (hb0 : zB D ≤ a) (hc : zCls ci C T N ty) (k : Nat) (hk : k < N) (hlink : Cond.fieldLinkNest own index ref (T k).2.1 (T k).2.2.1 host ∈ lw_tbl) (hsame : ∀ x, s.fieldFound? (T k).1 (T k).2.1 (T k).2.2.1 = some x → s.fieldFound? ref (T k).2.1 (T k).2.2.1 = some x) (hfin : (T k).2.2.2 = false) {v : Value} (hn : narrow (ty k) v = v) (hfit : fits (ty k) v = true) (hl : k < fs.length) (hdg : decode cc pc = .ok (.putfield index, 3))
    (kk : ∀ (H1 : Heap) (locs1 : List Loc), zS D (zu M a (some (.inr (ci, fs.set k v)))) H1 locs1 → W p l e R s m args below meth c H1 locs1 cells slots Q (F0 m (pc + 3) ls (rest))) : W p l e R s m args below meth c H locs cells slots Q (F0 m pc ls (v :: .ref a :: rest)) := by
  obtain ⟨hc1, hc2, hc3, hc4⟩ := hc
  have hap := va_apart (own := own) hC.ts hc2 ty hc3 hc4 hC.vK hc1
  obtain ⟨r, h1, cell, q1, q2, q3, q4⟩ := (zat_obj hb0).mp (hZ.cell hM)
  have hr : r = (C, T, N) := Option.some.inj (h1.symm.trans hc1)
  subst hr
  obtain ⟨hS, hfc, kC, hkC, hkind⟩ := hC.vK.1 ci _ hc1
  obtain ⟨cf, kf, fi, f, hi, hsl⟩ := hS k hk
  have hlay := hC.ts _ (hc2 _ (u_in_lay hk))
  unfold u_lay at hlay
  rw [if_neg (by rw [hfin]; decide)] at hlay
  have hst := (u_facts hfc hkC (u_lays hC.ts hc2 hk) hi).1
  have h6 := u_store hfc hkC hkind hlay hi (hc3 k hk) hn hfit
  refine va_WputK hC.x hC.b (f := f) hC.o (hC.nwu hlink rfl) (hsame _ hi) hst (by rw [q2]; exact h6) q1 q3 (by rw [hsl]; exact k2_hasslot (q4 k hk)) rfl rfl hdg fun H' e1 e2 e3 => ?_
  rw [hsl] at e1 ⊢
  exact kk H' _ (zS_put hZ hb0 ((zat_obj hb0).mpr ⟨_, hc1, t_OB.to (V := updV (vp_V fs) k v) ⟨_, e1, q2, q3, t_set q4 hap hk v⟩ (fun j _ => vp_updV_set hl v j)⟩) e2 e3)
theorem z_putF {C ref : String} {T : u_T} {N ci index : Nat} {ty : Nat → FieldType} {fs : List Value} (hC : zCx p s m args c cc nL own D) (hZ : zS D M H locs) (hM : M a = some (.inr (ci, fs))) (hb0 : zB D ≤ a) (hc : zCls ci C T N ty) (k : Nat) (hk : k < N) (hlink : Cond.fieldLink own index ref (T k).2.1 (T k).2.2.1 ∈ lw_all) (hsame : ∀ x, s.fieldFound? (T k).1 (T k).2.1 (T k).2.2.1 = some x → s.fieldFound? ref (T k).2.1 (T k).2.2.1 = some x) (hfin : (T k).2.2.2 = true) (hin2 : meth.name = "<init>") (hdecl : (T k).1 = own) {v : Value} (hn : narrow (ty k) v = v) (hfit : fits (ty k) v = true) (hl : k < fs.length) (hdg : decode cc pc = .ok (.putfield index, 3))
    (kk : ∀ (H1 : Heap) (locs1 : List Loc), zS D (zu M a (some (.inr (ci, fs.set k v)))) H1 locs1 → W p l e R s m args below meth c H1 locs1 cells slots Q (F0 m (pc + 3) ls (rest))) : W p l e R s m args below meth c H locs cells slots Q (F0 m pc ls (v :: .ref a :: rest)) := by
  obtain ⟨hc1, hc2, hc3, hc4⟩ := hc
  have hap := va_apart (own := own) hC.ts hc2 ty hc3 hc4 hC.vK hc1
  obtain ⟨r, h1, cell, q1, q2, q3, q4⟩ := (zat_obj hb0).mp (hZ.cell hM)
  have hr : r = (C, T, N) := Option.some.inj (h1.symm.trans hc1)
  subst hr
  obtain ⟨hS, hfc, kC, hkC, hkind⟩ := hC.vK.1 ci _ hc1
  obtain ⟨cf, kf, fi, f, hi, hsl⟩ := hS k hk
  have hlay := hC.ts _ (hc2 _ (u_in_lay hk))
  unfold u_lay at hlay
  rw [if_pos hfin] at hlay
  have hst := (u_facts hfc hkC (u_lays hC.ts hc2 hk) hi).1
  have hcf : m.cls = cf := by
    obtain ⟨_, _, c', _, _, _, -, -, hf', -, -, -, hown2, -⟩ := Cond.laysFinal_spec hlay
    have e1 : c' = cf := by have := hi.symm.trans hf'; simp at this; exact this.1.symm
    rw [hdecl] at hown2
    rw [← e1]; exact Option.some.inj (hC.o.symm.trans hown2)
  have h6 := u_fits hfc hkC hkind (Or.inr hlay) hi (hc3 k hk) hn hfit
  refine W.putFinK hC.x hC.b hC.o (hC.ts _ hlink) (hsame _ hi) hst hcf hin2 (by rw [q2]; exact h6) q1 q3 (by rw [hsl]; exact k2_hasslot (q4 k hk)) rfl rfl hdg fun H' e1 e2 e3 => ?_
  rw [hsl] at e1 ⊢
  exact kk H' _ (zS_put hZ hb0 ((zat_obj hb0).mpr ⟨_, hc1, t_OB.to (V := updV (vp_V fs) k v) ⟨_, e1, q2, q3, t_set q4 hap hk v⟩ (fun j _ => vp_updV_set hl v j)⟩) e2 e3)
theorem z_new {C : String} {T : u_T} {N ci index n : Nat} {ty : Nat → FieldType} {fs : List Value} (hC : zCx p s m args c cc nL own D) (hZ : zS D M H locs) (hc : zCls ci C T N ty) (hcl : Cond.classLink own index C ∈ lw_all) (hinst : Cond.instantiable C n ∈ lw_all) (hini : Cond.initialized C ∈ lw_all) (hfs : ∀ j, j < N → defaultValue (ty j) = vp_V fs j) (hcells : cells + 1 ≤ R.cells) (hslots : slots + n ≤ R.slots) (hdg : decode cc pc = .ok (.new index, 3))
    (kk : ∀ (q : Nat) (H1 : Heap), M q = none → zB D ≤ q → zS D (zu M q (some (.inr (ci, fs)))) H1 locs → W p l e R s m args below meth c H1 locs (cells + 1) (slots + n) Q (F0 m (pc + 3) ls (.ref q :: rest))) : W p l e R s m args below meth c H locs cells slots Q (F0 m pc ls (rest)) := by
  obtain ⟨hc1, hc2, hc3, hc4⟩ := hc
  have hKn := hC.vK.1 ci _ hc1
  refine W.newcK hC.x hC.b hC.o (hC.ts _ hcl) (hC.ts _ hinst) (hC.ts _ hini) rfl hdg hcells hslots hKn.2.1 rfl fun H1 kC hkC e1 z1 o1 => ?_
  refine kk H.size H1 (zH_fresh hZ.1) hZ.1.2.1 (zS_new hZ ((zat_obj hZ.1.2.1).mpr ?_) (by omega) o1)
  exact ⟨_, hc1, (u_born ty hC.ts hc2 hKn hkC e1 hc3).to hfs⟩
theorem z_newa {k N' : Nat} {atype : ArrayType} {a0 : vp_A} {n : Int32} (hC : zCx p s m args c cc nL own D) (hZ : zS D M H locs) (harr : Cond.arrayClass (newarray.typeOf atype) ∈ lw_all) (hk : zTy k = newarray.typeOf atype) (hk5 : k < 5) (ha : ∀ cA : ClassId, vp_cell cA a0 = arrV cA N' (fun _ => defaultValue (newarray.typeOf atype))) (hn : ¬ n < 0) (hN : n.toNatClampNeg = N') (hbytes : N' * componentBytes (newarray.typeOf atype) ≤ 536870912) (hcells : cells + 1 ≤ R.cells) (hslots : slots + N' ≤ R.slots) (hdg : decode cc pc = .ok (.newarray atype, 2))
    (kk : ∀ (q : Nat) (H1 : Heap), M q = none → zB D ≤ q → zS D (zu M q (some (.inl (k, a0)))) H1 locs → W p l e R s m args below meth c H1 locs (cells + 1) (slots + N') Q (F0 m (pc + 2) ls (.ref q :: rest))) : W p l e R s m args below meth c H locs cells slots Q (F0 m pc ls (.int n :: rest)) := by
  refine va_newaK hC.x hC.b (hC.ts _ harr) rfl hdg rfl hn hN hbytes hcells hslots rfl fun H1 cA e1 z1 o1 hAr hNm => ?_
  have hcA : D.2.1 k = cA := by
    have h1 : ∃ t, (zTys D)[k]? = some (D.2.1 k, t) ∧ t = newarray.typeOf atype := by
      match k, hk5, hk with
      | 0, _, h => exact ⟨_, rfl, h⟩
      | 1, _, h => exact ⟨_, rfl, h⟩
      | 2, _, h => exact ⟨_, rfl, h⟩
      | 3, _, h => exact ⟨_, rfl, h⟩
      | 4, _, h => exact ⟨_, rfl, h⟩
    obtain ⟨t, ht, rfl⟩ := h1
    have h2 := (hC.vK.2 k _ ht).2
    have h3 : s.vm.findClass ("[" ++ (newarray.typeOf atype).toString) = some (D.2.1 k) := by
      cases atype <;> exact h2
    exact Option.some.inj (h3.symm.trans hNm)
  refine kk H.size H1 (zH_fresh hZ.1) hZ.1.2.1 (zS_new hZ ((zat_arr hZ.1.2.1).mpr ?_) (by omega) o1)
  dsimp only
  rw [ha, hcA]
  exact e1
theorem z_newq {k N' index : Nat} {E : String} {n : Int32} (hC : zCx p s m args c cc nL own D) (hZ : zS D M H locs) (hlink : Cond.classLink own index E ∈ lw_all) (hover : E ∈ zAOs) (ht : (zTys D)[k]? = some (D.2.1 k, .object E)) (hn : ¬ n < 0) (hN : n.toNatClampNeg = N') (hbytes : N' * 4 ≤ 536870912) (hcells : cells + 1 ≤ R.cells) (hslots : slots + N' ≤ R.slots) (hdg : decode cc pc = .ok (.anewarray index, 3))
    (kk : ∀ (q : Nat) (H1 : Heap), M q = none → zB D ≤ q → zS D (zu M q (some (.inl (k, N', .inr (.inr (.inr (.inr (fun _ => none)))))))) H1 locs → W p l e R s m args below meth c H1 locs (cells + 1) (slots + N') Q (F0 m (pc + 3) ls (.ref q :: rest))) : W p l e R s m args below meth c H locs cells slots Q (F0 m pc ls (.int n :: rest)) := by
  subst hN
  refine W.anew hC.x hC.b hC.o (hC.ts _ hlink) (va_AO.use (hC.K.2.2.1 E hover)) rfl hdg rfl hn hbytes hcells hslots fun cA kA comp f1 f2 f3 f4 => ?_
  have hcA : D.2.1 k = cA := by
    obtain ⟨-, -, -, -, -, h4⟩ := (hC.vK.2 k _ ht).2
    exact Option.some.inj (h4.symm.trans f1)
  generalize hH1 : H.push ({ cls := cA, slots := Array.replicate n.toNatClampNeg .null, vm := .none } : Cell) = H1
  have z1 : H1.size = H.size + 1 := by rw [← hH1, Array.size_push]
  have e1 : H1[H.size]? = some (arrV cA n.toNatClampNeg (fun _ => .null)) := by rw [← hH1, Array.getElem?_push_size, ← arrV_new]
  have o1 : ∀ q : Nat, q < H.size → H1[q]? = H[q]? := fun q hq => by rw [← hH1, Array.getElem?_push, if_neg (Nat.ne_of_lt hq)]
  refine kk H.size H1 (zH_fresh hZ.1) hZ.1.2.1 (zS_new hZ ((zat_arr hZ.1.2.1).mpr ?_) (by omega) o1)
  dsimp only
  rw [vp_cell_q, hcA]
  exact e1
/-- what an object's cell says to a call, a cast -/
theorem z_recv {C : String} {T : u_T} {N ci : Nat} {ty : Nat → FieldType} {fs : List Value} (hC : zCx p s m args c cc nL own D) (hZ : zS D M H locs) (hM : M a = some (.inr (ci, fs))) (hc : zCls ci C T N ty) : ∃ cell : Cell, H[a]? = some cell ∧ cell.vm.isStatics = false ∧ s.vm.findClass C = some cell.cls := by
  obtain ⟨q', h1, cell, g1, g2, g3, -⟩ := zat_o (hZ.cell hM)
  exact ⟨cell, g1, g3, by rw [g2]; exact (hC.vK.1 ci _ hc.1).2.1⟩
theorem z_recvA {k : Nat} {x : vp_A} {t : FieldType} (hC : zCx p s m args c cc nL own D) (hZ : zS D M H locs) (hM : M a = some (.inl (k, x))) (hb0 : zB D ≤ a) (ht : (zTys D)[k]? = some (D.2.1 k, t)) (hn : s.vm.findClass ("[" ++ t.toString) = some (D.2.1 k)) : ∃ cell : Cell, H[a]? = some cell ∧ cell.vm.isStatics = false ∧ s.vm.findClass ("[" ++ t.toString) = some cell.cls := by
  have hcell := (zat_arr hb0).mp (hZ.cell hM)
  rw [zav_cell] at hcell
  exact ⟨_, hcell, rfl, hn⟩
end ZR
