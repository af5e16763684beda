/-! Z-WP: what the weakest preconditions are made of, over the map -/
set_option maxRecDepth 100000
/-- a field of the object b, of class number ci, place k -/
def zgI (M : zM) (b ci k : Nat) (Φ : Int32 → Prop) : Prop := ∃ (fs : List Value) (x : Int32), M b = some (.inr (ci, fs)) ∧ fs[k]? = some (.int x) ∧ Φ x
def zgL (M : zM) (b ci k : Nat) (Φ : Int64 → Prop) : Prop := ∃ (fs : List Value) (x : Int64), M b = some (.inr (ci, fs)) ∧ fs[k]? = some (.long x) ∧ Φ x
def zgR (M : zM) (b ci k : Nat) (Φ : Option Nat → Prop) : Prop := ∃ (fs : List Value) (x : Option Nat), M b = some (.inr (ci, fs)) ∧ fs[k]? = some (va_rf x) ∧ Φ x
/-- the same where the object may be of several classes: (class number, place) in L -/
def zgIm (M : zM) (b : Nat) (L : List (Nat × Nat)) (Φ : Int32 → Prop) : Prop := ∃ (q : Nat × Nat) (fs : List Value) (x : Int32), q ∈ L ∧ M b = some (.inr (q.1, fs)) ∧ fs[q.2]? = some (.int x) ∧ Φ x
def zgRm (M : zM) (b : Nat) (L : List (Nat × Nat)) (Φ : Option Nat → Prop) : Prop := ∃ (q : Nat × Nat) (fs : List Value) (x : Option Nat), q ∈ L ∧ M b = some (.inr (q.1, fs)) ∧ fs[q.2]? = some (va_rf x) ∧ Φ x
def zd (r : Option Nat) (Φ : Nat → Prop) : Prop := ∃ b : Nat, r = some b ∧ Φ b
def zp (D : zD) (M : zM) (b ci k : Nat) (v : Value) (Φ : zM → Prop) : Prop := ∃ fs : List Value, M b = some (.inr (ci, fs)) ∧ zB D ≤ b ∧ k < fs.length ∧ Φ (zu M b (some (.inr (ci, fs.set k v))))
def zpm (D : zD) (M : zM) (b : Nat) (L : List (Nat × Nat)) (v : Value) (Φ : zM → Prop) : Prop := ∃ (q : Nat × Nat) (fs : List Value), q ∈ L ∧ M b = some (.inr (q.1, fs)) ∧ zB D ≤ b ∧ q.2 < fs.length ∧ Φ (zu M b (some (.inr (q.1, fs.set q.2 v))))
def zaI (M : zM) (b kd : Nat) (i : Int32) (Φ : Int32 → Prop) : Prop := ∃ (n : Nat) (f : Nat → Int32), M b = some (.inl (kd, n, .inl f)) ∧ vp_in i n ∧ Φ (f i.toNatClampNeg)
def zaL (M : zM) (b : Nat) (i : Int32) (Φ : Int64 → Prop) : Prop := ∃ (n : Nat) (f : Nat → Int64), M b = some (.inl (2, n, .inr (.inl f))) ∧ vp_in i n ∧ Φ (f i.toNatClampNeg)
def zaF (M : zM) (b : Nat) (i : Int32) (Φ : UInt32 → Prop) : Prop := ∃ (n : Nat) (f : Nat → UInt32), M b = some (.inl (3, n, .inr (.inr (.inl f)))) ∧ vp_in i n ∧ Φ (f i.toNatClampNeg)
def zaD (M : zM) (b : Nat) (i : Int32) (Φ : UInt64 → Prop) : Prop := ∃ (n : Nat) (f : Nat → UInt64), M b = some (.inl (4, n, .inr (.inr (.inr (.inl f))))) ∧ vp_in i n ∧ Φ (f i.toNatClampNeg)
def zaR (M : zM) (b kd : Nat) (i : Int32) (Φ : Option Nat → Prop) : Prop := ∃ (n : Nat) (f : Nat → Option Nat) (r : Option Nat), M b = some (.inl (kd, n, .inr (.inr (.inr (.inr f))))) ∧ vp_in i n ∧ f i.toNatClampNeg = r ∧ Φ r
def zsI (D : zD) (M : zM) (b : Nat) (i x : Int32) (Φ : zM → Prop) : Prop := ∃ (n : Nat) (f : Nat → Int32), M b = some (.inl (0, n, .inl f)) ∧ zB D ≤ b ∧ vp_in i n ∧ Φ (zu M b (some (.inl (0, n, .inl (upd f i.toNatClampNeg x)))))
def zsB (D : zD) (M : zM) (b : Nat) (i x : Int32) (Φ : zM → Prop) : Prop := ∃ (n : Nat) (f : Nat → Int32), M b = some (.inl (1, n, .inl f)) ∧ zB D ≤ b ∧ vp_in i n ∧ Φ (zu M b (some (.inl (1, n, .inl (upd f i.toNatClampNeg (vp_nar .byte x))))))
def zsL (D : zD) (M : zM) (b : Nat) (i : Int32) (x : Int64) (Φ : zM → Prop) : Prop := ∃ (n : Nat) (f : Nat → Int64), M b = some (.inl (2, n, .inr (.inl f))) ∧ zB D ≤ b ∧ vp_in i n ∧ Φ (zu M b (some (.inl (2, n, .inr (.inl (vp_updL f i.toNatClampNeg x))))))
def zsF (D : zD) (M : zM) (b : Nat) (i : Int32) (x : UInt32) (Φ : zM → Prop) : Prop := ∃ (n : Nat) (f : Nat → UInt32), M b = some (.inl (3, n, .inr (.inr (.inl f)))) ∧ zB D ≤ b ∧ vp_in i n ∧ Φ (zu M b (some (.inl (3, n, .inr (.inr (.inl (vf_upd f i.toNatClampNeg x)))))))
def zsD (D : zD) (M : zM) (b : Nat) (i : Int32) (x : UInt64) (Φ : zM → Prop) : Prop := ∃ (n : Nat) (f : Nat → UInt64), M b = some (.inl (4, n, .inr (.inr (.inr (.inl f))))) ∧ zB D ≤ b ∧ vp_in i n ∧ Φ (zu M b (some (.inl (4, n, .inr (.inr (.inr (.inl (vf_upd f i.toNatClampNeg x))))))))
/-- class numbers whose objects an array of kind kd takes -/
def zok : Nat → List Nat := fun kd => match kd with
  | 5 => [3, 12, 14, 15, 16, 18, 19, 20, 21]
  | 6 => [2, 4, 5, 6]
  | 7 => [1]
  | 8 => [10]
  | 9 => [22, 23, 24]
  | 10 => [7]
  | _ => []
def zsR (D : zD) (M : zM) (b kd : Nat) (i : Int32) (r : Option Nat) (Φ : zM → Prop) : Prop := ∃ (n : Nat) (f : Nat → Option Nat), M b = some (.inl (kd, n, .inr (.inr (.inr (.inr f))))) ∧ zB D ≤ b ∧ vp_in i n ∧ (∀ w : Nat, r = some w → ∃ (ci : Nat) (fs : List Value), ci ∈ zok kd ∧ M w = some (.inr (ci, fs))) ∧ Φ (zu M b (some (.inl (kd, n, .inr (.inr (.inr (.inr (va_up f i.toNatClampNeg r))))))))
def zlen (M : zM) (b : Nat) (Φ : Int32 → Prop) : Prop := ∃ y : Nat × vp_A, M b = some (.inl y) ∧ y.1 < 11 ∧ Φ (Int32.ofNat y.2.1)
def znew (D : zD) (M : zM) (ci N : Nat) (fs : List Value) (k n : Nat) (Φ : Nat → zM → Prop) : Prop := 1 ≤ k ∧ N ≤ n ∧ ∀ b : Nat, M b = none → zB D ≤ b → Φ b (zu M b (some (.inr (ci, fs))))
def zna (kd : Nat) (n : Nat) : vp_A := match kd with
  | 2 => (n, .inr (.inl (fun _ => 0)))
  | 3 => (n, .inr (.inr (.inl (fun _ => 0))))
  | 4 => (n, .inr (.inr (.inr (.inl (fun _ => 0)))))
  | 0 => (n, .inl (fun _ => 0))
  | 1 => (n, .inl (fun _ => 0))
  | _ => (n, .inr (.inr (.inr (.inr (fun _ => none)))))
def znewA (D : zD) (M : zM) (kd : Nat) (x : Int32) (k n : Nat) (Φ : Nat → zM → Prop) : Prop := ¬ x < 0 ∧ x.toNatClampNeg ≤ 1000000 ∧ 1 ≤ k ∧ x.toNatClampNeg ≤ n ∧ ∀ b : Nat, M b = none → zB D ≤ b → Φ b (zu M b (some (.inl (kd, zna kd x.toNatClampNeg))))
/-- an object b of one of some classes -/
def zis (M : zM) (b : Nat) (L : List Nat) : Prop := ∃ (ci : Nat) (fs : List Value), ci ∈ L ∧ M b = some (.inr (ci, fs))
/-- thrown: q, an object that the map knows -/
def zth (D : zD) (M : zM) (q : Nat) : Prop := ∃ (ci : Nat) (fs : List Value), ci < 31 ∧ M q = some (.inr (ci, fs)) ∧ zB D ≤ q
/-- made by the machine: an exception of class number ci -/
def znewX (D : zD) (M : zM) (ci : Nat) (k n kk nn : Nat) (Φ : Nat → zM → Prop) : Prop := kk ≤ k ∧ nn ≤ n ∧ ∀ b : Nat, M b = none → zB D ≤ b → Φ b (zu M b (some (.inr (ci, []))))
/-- how to meet them -/
theorem zgI_of {M : zM} {b ci k : Nat} {Φ : Int32 → Prop} {fs : List Value} {x : Int32} (h : M b = some (.inr (ci, fs))) (hx : fs[k]? = some (.int x)) (hp : Φ x) : zgI M b ci k Φ := ⟨fs, x, h, hx, hp⟩
theorem zgL_of {M : zM} {b ci k : Nat} {Φ : Int64 → Prop} {fs : List Value} {x : Int64} (h : M b = some (.inr (ci, fs))) (hx : fs[k]? = some (.long x)) (hp : Φ x) : zgL M b ci k Φ := ⟨fs, x, h, hx, hp⟩
theorem zgR_of {M : zM} {b ci k : Nat} {Φ : Option Nat → Prop} {fs : List Value} {x : Option Nat} (h : M b = some (.inr (ci, fs))) (hx : fs[k]? = some (va_rf x)) (hp : Φ x) : zgR M b ci k Φ := ⟨fs, x, h, hx, hp⟩
theorem zgIm_of {M : zM} {b ci k : Nat} {L : List (Nat × Nat)} {Φ : Int32 → Prop} {fs : List Value} {x : Int32} (h : M b = some (.inr (ci, fs))) (hL : (ci, k) ∈ L) (hx : fs[k]? = some (.int x)) (hp : Φ x) : zgIm M b L Φ := ⟨(ci, k), fs, x, hL, h, hx, hp⟩
theorem zgRm_of {M : zM} {b ci k : Nat} {L : List (Nat × Nat)} {Φ : Option Nat → Prop} {fs : List Value} {x : Option Nat} (h : M b = some (.inr (ci, fs))) (hL : (ci, k) ∈ L) (hx : fs[k]? = some (va_rf x)) (hp : Φ x) : zgRm M b L Φ := ⟨(ci, k), fs, x, hL, h, hx, hp⟩
theorem zp_of {D : zD} {M : zM} {b ci k : Nat} {v : Value} {Φ : zM → Prop} {fs : List Value} (h : M b = some (.inr (ci, fs))) (hb : zB D ≤ b) (hk : k < fs.length) (hp : Φ (zu M b (some (.inr (ci, fs.set k v))))) : zp D M b ci k v Φ := ⟨fs, h, hb, hk, hp⟩
/-- what is read off the lists by program -/
theorem zrf_nar {C : String} {r : Option Nat} : narrow (.object C) (va_rf r) = va_rf r := by cases r <;> rfl
theorem zrf_fit {C : String} {r : Option Nat} : fits (.object C) (va_rf r) = true := by cases r <;> rfl
theorem zrf_narA {t : FieldType} {r : Option Nat} : narrow (.array t) (va_rf r) = va_rf r := by cases r <;> rfl
theorem zrf_fitA {t : FieldType} {r : Option Nat} : fits (.array t) (va_rf r) = true := by cases r <;> rfl
theorem zal {α : Type} {P : α → Prop} {a : α} {L : List α} (h : P a) (t : ∀ x ∈ L, P x) : ∀ x ∈ a :: L, P x := List.forall_mem_cons.mpr ⟨h, t⟩
theorem za0 {α : Type} {P : α → Prop} : ∀ x ∈ ([] : List α), P x := fun _ h => absurd h List.not_mem_nil
