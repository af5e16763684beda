/-! messages as trees, their letters; what a reader answers -/
/-- a part without branches: 0 a sign, 1 a hash, 2 plain, 3 joined, 4 shaped; its letter; its argument; grouped, whole, least, more -/
abbrev zLf : Type := Nat × Int32 × Nat × Bool × Nat × Nat × Nat
/-- a part of at most so many levels of choices: a choice has a kind (plural), an argument, branches (a key's letters, parts) -/
def zN : Nat → Type
  | 0 => zLf
  | d + 1 => zLf ⊕ (Bool × Nat × List (List Int32 × List (zN d)))
def zrp (n : Nat) (c : Int32) : List Int32 := List.replicate n c
/-- a pattern's letters, behind the n -/
def zpl (g : Bool) (w l m : Nat) : List Int32 := (if g then [44] else []) ++ zrp w 48 ++ (if l + m = 0 then [] else 46 :: (zrp l 48 ++ zrp m 35))
def zlL (q : zLf) : List Int32 := match q with
  | (0, c, _) => [c]
  | (1, _) => [35]
  | (2, _, a, _) => [123, nI (65 + a), 125]
  | (3, _, a, _) => [123, nI (65 + a), 108, 125]
  | (_, _, a, g, w, l, m) => 123 :: nI (65 + a) :: 110 :: (zpl g w l m ++ [125])
/-- letters of a part, of parts -/
def znL : (d : Nat) → zN d → List Int32
  | 0, q => zlL q
  | d + 1, q => Sum.elim (fun q => zlL q) (fun q => 123 :: nI (65 + q.2.1) :: (if q.1 then 112 else 103) :: (q.2.2.flatMap (fun b => b.1 ++ 40 :: (b.2.flatMap (znL d) ++ [41])) ++ [125])) q
def ztL (d : Nat) (t : List (zN d)) : List Int32 := t.flatMap (znL d)
def zbL (d : Nat) (b : List Int32 × List (zN d)) : List Int32 := b.1 ++ 40 :: (ztL d b.2 ++ [41])
/-- how many parts -/
def znM : (d : Nat) → zN d → Nat
  | 0, _ => 1
  | d + 1, q => Sum.elim (fun _ => 1) (fun q => 1 + (q.2.2.map (fun b => (b.2.map (znM d)).sum)).sum) q
def ztM (d : Nat) (t : List (zN d)) : Nat := (t.map (znM d)).sum
/-- how many choices -/
def znC : (d : Nat) → zN d → Nat
  | 0, _ => 0
  | d + 1, q => Sum.elim (fun _ => 0) (fun q => 1 + (q.2.2.map (fun b => (b.2.map (znC d)).sum)).sum) q
def ztC (d : Nat) (t : List (zN d)) : Nat := (t.map (znC d)).sum
def zmx (l : List Nat) : Nat := l.foldr max 0
/-- how deep choices lie within each other -/
def znD : (d : Nat) → zN d → Nat
  | 0, _ => 0
  | d + 1, q => Sum.elim (fun _ => 0) (fun q => 1 + zmx (q.2.2.map (fun b => zmx (b.2.map (znD d))))) q
def ztD (d : Nat) (t : List (zN d)) : Nat := zmx (t.map (znD d))
/-- a choice: argument, kind, how many around it, where it begins; its branches: key, where its parts begin -/
abbrev zCh : Type := Nat × Nat × Nat × Nat × List (Nat × Nat)
def zdg (l : List Int32) : Nat := l.foldl (fun v c => 10 * v + (c - 48).toNatClampNeg) 0
/-- a key of its letters -/
def zkv (pl : Bool) (l : List Int32) : Nat := match l with
  | [] => 0
  | c :: r => if pl then (if c = 122 then 0 else if c = 111 then 1 else if c = 116 then 2 else if c = 102 then 3 else if c = 109 then 4 else if c = 120 then 5 else 10 + zdg r)
    else (if c = 109 then 0 else if c = 102 then 1 else if c = 110 then 2 else 3)
/-- branches' keys and begins, from a place on -/
def zbr (pl : Bool) (d : Nat) : Nat → List (List Int32 × List (zN d)) → List (Nat × Nat)
  | _, [] => []
  | p, b :: bs => (zkv pl b.1, p + b.1.length + 1) :: zbr pl d (p + (zbL d b).length) bs
/-- along a row of pieces, each so long -/
def zalg {α β : Type} (g : Nat → α → List β) (len : α → Nat) : Nat → List α → List β
  | _, [] => []
  | p, q :: t => g p q ++ zalg g len (p + len q) t
/-- the choices in the order in which they begin; u: how many lie around; p: where -/
def zcN : (d : Nat) → Nat → Nat → zN d → List zCh
  | 0, _, _, _ => []
  | d + 1, u, p, q => Sum.elim (fun _ => []) (fun q => (q.2.1, (if q.1 then 1 else 2), u, p, zbr q.1 d (p + 3) q.2.2) ::
      zalg (fun r b => zalg (zcN d (u + 1)) (fun x => (znL d x).length) (r + b.1.length + 1) b.2) (fun b => (zbL d b).length) (p + 3) q.2.2) q
def zcs (d u p : Nat) (t : List (zN d)) : List zCh := zalg (zcN d u) (fun x => (znL d x).length) p t
/-! reading -/
/-- as it is read: where; how many choices; the first lie; what is met; types -/
abbrev zRh : Type := Nat × Nat × Option Nat × Int32 × (Nat → Nat)
def zhr (tp : Nat → Int32) (n p : Nat) : Int32 := if p < n then tp p else -1
def zlie (w : Option Nat) (p : Nat) : Option Nat := some (match w with | none => p | some q => min q p)
def zuse (r : zRh) (a ty p : Nat) : zRh := (r.1, r.2.1, (if ty ≠ 0 ∧ r.2.2.2.2 a ≠ 0 ∧ r.2.2.2.2 a ≠ ty then zlie r.2.2.1 p else r.2.2.1), r.2.2.2.1 ||| ((1 : Int32) <<< (nI a &&& 31)), (if ty ≠ 0 ∧ r.2.2.2.2 a = 0 then (fun j => if j = a then ty else r.2.2.2.2 j) else r.2.2.2.2))
def zcnt (tp : Nat → Int32) (n : Nat) (c : Int32) : Nat → Nat → Nat
  | 0, _ => 0
  | m + 1, p => if zhr tp n p = c then zcnt tp n c m (p + 1) + 1 else 0
/-- a pattern and the } behind it -/
def zpat (tp : Nat → Int32) (n p : Nat) : Nat ⊕ (Nat × Bool × Nat × Nat × Nat) :=
  let g := decide (zhr tp n p = 44)
  let a1 := if g then p + 1 else p
  let w := zcnt tp n 48 4 a1
  let a2 := a1 + w
  if w = 0 then .inl a2
  else if zhr tp n a2 = 46 then
    let l := zcnt tp n 48 3 (a2 + 1)
    let m := zcnt tp n 35 3 (a2 + 1 + l)
    let a4 := a2 + 1 + l + m
    if l + m = 0 then .inl a4 else if zhr tp n a4 = 125 then .inr (a4 + 1, g, w, l, m) else .inl a4
  else if zhr tp n a2 = 125 then .inr (a2 + 1, g, w, 0, 0) else .inl a2
def zsg (c : Int32) : Bool := zin c.toInt64 97 122 || decide (c = 32) || decide (c = 44) || decide (c = 46)
def zdgt (c : Int32) : Bool := zin c.toInt64 48 57
/-- up to so many digits -/
def zdgs (tp : Nat → Int32) (n : Nat) : Nat → Nat → List Int32
  | 0, _ => []
  | m + 1, p => if zdgt (zhr tp n p) then zhr tp n p :: zdgs tp n m (p + 1) else []
def zkl (pl : Bool) (c : Int32) : Bool := if pl then decide (c = 122 ∨ c = 111 ∨ c = 116 ∨ c = 102 ∨ c = 109 ∨ c = 120) else decide (c = 109 ∨ c = 102 ∨ c = 110 ∨ c = 120)
/-- a key's letters -/
def zkey (tp : Nat → Int32) (n : Nat) (pl : Bool) (p : Nat) : Nat ⊕ List Int32 :=
  if zkl pl (zhr tp n p) then .inr [zhr tp n p]
  else if pl && decide (zhr tp n p = 61) then (if zdgt (zhr tp n (p + 1)) then .inr (61 :: zdgs tp n 3 (p + 1)) else .inl (p + 1))
  else .inl p
/-- branches till a } -/
def zrB (tp : Nat → Int32) (n : Nat) {α : Type} (sub : zRh → Nat ⊕ (α × zRh)) (pl : Bool) : Nat → List (List Int32 × α) → zRh → Nat ⊕ (List (List Int32 × α) × zRh)
  | 0, _, _ => .inl 0
  | f + 1, acc, r =>
    if acc.length = 10 then .inl r.1 else
    match zkey tp n pl r.1 with
    | .inl e => .inl e
    | .inr kt =>
      let a1 := r.1 + kt.length
      if zhr tp n a1 ≠ 40 then .inl a1 else
      match sub (a1 + 1, r.2.1, (if acc.any (fun b => zkv pl b.1 == zkv pl kt) then zlie r.2.2.1 r.1 else r.2.2.1), r.2.2.2) with
      | .inl e => .inl e
      | .inr (t, r2) =>
        if zhr tp n r2.1 ≠ 41 then .inl r2.1 else
        if zhr tp n (r2.1 + 1) = 125 then .inr (acc ++ [(kt, t)], (r2.1 + 1, r2.2)) else zrB tp n sub pl f (acc ++ [(kt, t)]) (r2.1 + 1, r2.2)
/-- a brace without branches, or what a choice begins with: argument, its letter -/
def zr0 (tp : Nat → Int32) (n : Nat) (r : zRh) : Nat ⊕ (zLf × zRh) ⊕ (Nat × Int32) :=
  let c1 := zhr tp n (r.1 + 1)
  if zin c1.toInt64 65 69 then
    let a := (c1 - 65).toNatClampNeg
    let c := zhr tp n (r.1 + 2)
    if c = 125 then .inr (.inl ((2, 0, a, false, 0, 0, 0), zuse (r.1 + 3, r.2) a 0 (r.1 + 1)))
    else if c = 108 then (if zhr tp n (r.1 + 3) = 125 then .inr (.inl ((3, 0, a, false, 0, 0, 0), zuse (r.1 + 4, r.2) a 3 (r.1 + 1))) else .inl (r.1 + 3))
    else if c = 110 then (match zpat tp n (r.1 + 3) with | .inl e => .inl e | .inr (p, g, w, l, m) => .inr (.inl ((4, 0, a, g, w, l, m), zuse (p, r.2) a 1 (r.1 + 1))))
    else .inr (.inr (a, c))
  else .inl (r.1 + 1)
/-- a brace with branches -/
def zrC (tp : Nat → Int32) (n : Nat) {d : Nat} (sub : Bool → zRh → Nat ⊕ (List (zN d) × zRh)) (pl : Bool) (r : zRh) (a : Nat) (c : Int32) : Nat ⊕ (zN (d + 1) × zRh) :=
  if (c = 112 ∨ c = 103) ∧ r.2.1 < 8 then
    let k := decide (c = 112)
    match zrB tp n (sub (pl || k)) k (n + 1) [] (let q := zuse (r.1 + 3, r.2) a (if k then 1 else 2) (r.1 + 1); (q.1, q.2.1 + 1, q.2.2)) with
    | .inl e => .inl e
    | .inr (bs, r2) => .inr (.inr (k, a, bs), (r2.1 + 1, r2.2.1, (if bs.any (fun b => zkv k b.1 == (if k then 5 else 3)) then r2.2.2.1 else zlie r2.2.2.1 r2.1), r2.2.2.2))
  else .inl (r.1 + 2)
/-- parts, till none stands here -/
def zrL (tp : Nat → Int32) (n : Nat) {α : Type} (mk : zLf → α) (one : zRh → Nat ⊕ (α × zRh)) (pl : Bool) : Nat → zRh → Nat ⊕ (List α × zRh)
  | 0, _ => .inl 0
  | f + 1, r =>
    let c := zhr tp n r.1
    if zsg c || (decide (c = 35) && pl) then
      (match zrL tp n mk one pl f (r.1 + 1, r.2) with
      | .inl e => .inl e
      | .inr (t, r2) => .inr (mk (if zsg c then (0, c, 0, false, 0, 0, 0) else (1, 0, 0, false, 0, 0, 0)) :: t, r2))
    else if c = 123 then
      (match one r with
      | .inl e => .inl e
      | .inr (q, r1) =>
        match zrL tp n mk one pl f r1 with
        | .inl e => .inl e
        | .inr (t, r2) => .inr (q :: t, r2))
    else .inr ([], r)
def zrd (tp : Nat → Int32) (n : Nat) : (d : Nat) → Bool → zRh → Nat ⊕ (List (zN d) × zRh)
  | 0, pl => zrL tp n (fun q => q) (fun r => match zr0 tp n r with | .inl e => .inl e | .inr (.inl x) => .inr x | .inr (.inr _) => .inl (r.1 + 2)) pl (n + 1)
  | d + 1, pl => zrL tp n .inl (fun r => match zr0 tp n r with | .inl e => .inl e | .inr (.inl (q, r1)) => .inr (.inl q, r1) | .inr (.inr (a, c)) => zrC tp n (zrd tp n d) pl r a c) pl (n + 1)
/-- a whole tape: a fault at a place, a lie at a place, or a message -/
def zrW (tp : Nat → Int32) (n : Nat) : Nat ⊕ Nat ⊕ (List (zN 3) × zRh) :=
  match zrd tp n 3 false (0, 0, none, 0, fun _ => 0) with
  | .inl e => .inl e
  | .inr (t, r) => if r.1 = n then (match r.2.2.1 with | some p => .inr (.inl p) | none => .inr (.inr (t, r))) else .inl r.1
