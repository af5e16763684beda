/-! the twin writes a message: choices, parts, the act -/
theorem zbr_at (pl : Bool) (d : Nat) : ∀ (bs : List (List Int32 × List (zN d))) (p i : Nat) (b : List Int32 × List (zN d)), bs[i]? = some b →
    (zbr pl d p bs)[i]? = some (zkv pl b.1, p + ((bs.take i).map fun b => (zbL d b).length).sum + b.1.length + 1)
  | [], p, i, b, h => by simp at h
  | x :: bs, p, 0, b, h => by cases h; simp [zbr]
  | x :: bs, p, i + 1, b, h => by
    rw [zbr, List.getElem?_cons_succ, zbr_at pl d bs _ i b (by simpa using h), List.take_succ_cons, List.map_cons, List.sum_cons]
    congr 2
    omega
theorem zbr_fst (pl : Bool) (d : Nat) : ∀ (bs : List (List Int32 × List (zN d))) (p : Nat), (zbr pl d p bs).map Prod.fst = bs.map fun b => zkv pl b.1
  | [], p => rfl
  | x :: bs, p => by rw [zbr, List.map_cons, List.map_cons, zbr_fst pl d bs]
theorem zix_some {q : Nat} : ∀ {l : List Nat} {i : Nat}, q ∈ l → ∃ r, zix q i l = some r
  | [], i, h => by cases h
  | x :: l, i, h => by
    unfold zix
    by_cases e : x = q
    · rw [if_pos e]; exact ⟨i, rfl⟩
    · rw [if_neg e]
      rcases List.mem_cons.mp h with h | h
      · exact absurd h.symm e
      · exact zix_some h
theorem zbo_lt {d : Int32} {k : Nat} {other : Option Nat} : ∀ {l : List Nat} {i r : Nat}, zbo d k other i l = some r → (other = some r) ∨ (i ≤ r ∧ r < i + l.length)
  | [], i, r, h => Or.inl h
  | x :: l, i, r, h => by
    unfold zbo at h
    split at h
    · cases h; right; simp
    · rcases zbo_lt h with h | h
      · exact Or.inl h
      · right; simp only [List.length_cons]; omega
theorem zbo_some {d : Int32} {k : Nat} {other : Option Nat} (ho : ∃ r, other = some r) : ∀ {l : List Nat} {i : Nat}, ∃ r, zbo d k other i l = some r
  | [], i => ho
  | x :: l, i => by
    unfold zbo
    split
    · exact ⟨i, rfl⟩
    · exact zbo_some ho
theorem zoth_some {ks : List Nat} {key o : Nat} (h : o ∈ ks) : ∃ r, zoth ks key o = some r := by
  unfold zoth
  cases e : zix key 0 ks with
  | some b => exact ⟨b, rfl⟩
  | none => exact zix_some h
theorem zoth_lt {ks : List Nat} {key o r : Nat} (h : zoth ks key o = some r) : r < ks.length := by
  unfold zoth at h
  split at h
  · rename_i b e; cases h; have := zix_lt e; omega
  · have := zix_lt h; omega
theorem zpick_some {own : List zCo} {l : Nat} {k : Bool} {t : zTh} {ks : List Nat} (h : (if k then 5 else 3) ∈ ks) : ∃ r, zpick own l k t ks = some r ∧ r < ks.length := by
  unfold zpick
  cases k
  · obtain ⟨r, hr⟩ := zoth_some (key := t.2.1.toNatClampNeg) h
    exact ⟨r, hr, zoth_lt hr⟩
  · obtain ⟨r, hr⟩ := zbo_some (d := t.2.1) (k := t.2.2.1) (other := zoth ks (zca (zof own l) t.2.1 t.2.2.1) 5) (zoth_some h) (l := ks) (i := 0)
    refine ⟨r, hr, ?_⟩
    rcases zbo_lt hr with h2 | h2
    · exact zoth_lt h2
    · omega
theorem zflat_take {α : Type} {f : α → List Int32} : ∀ (l : List α) (i : Nat) (x : α), l[i]? = some x → ∃ r, l.flatMap f = (l.take i).flatMap f ++ (f x ++ r)
  | [], i, x, h => by simp at h
  | y :: l, 0, x, h => by cases h; exact ⟨l.flatMap f, by simp⟩
  | y :: l, i + 1, x, h => by
    obtain ⟨r, hr⟩ := zflat_take (f := f) l i x (by simpa using h)
    exact ⟨r, by rw [List.flatMap_cons, hr, List.take_succ_cons, List.flatMap_cons, List.append_assoc]⟩
theorem zalg_take {α β : Type} {g : Nat → α → List β} {len : α → Nat} : ∀ (l : List α) (p i : Nat) (x : α), l[i]? = some x → ∃ a b, zalg g len p l = a ++ (g (p + ((l.take i).map len).sum) x ++ b)
  | [], p, i, x, h => by simp at h
  | y :: l, p, 0, x, h => by cases h; exact ⟨[], zalg g len (p + len y) l, by simp [zalg]⟩
  | y :: l, p, i + 1, x, h => by
    obtain ⟨a, b, hr⟩ := zalg_take (g := g) (len := len) l (p + len y) i x (by simpa using h)
    exact ⟨g p y ++ a, b, by rw [zalg, hr, List.take_succ_cons, List.map_cons, List.sum_cons, List.append_assoc, Nat.add_assoc]⟩
section TM3
variable {D : zD} {o : Nat} {A : Nat → Nat} {S0 : zTS} {I : zM} {j l n nc hi : Nat} {th : Nat → zTh} {cs : List zCh}
/-- parts at a place are written -/
def zPM (D : zD) (o : Nat) (A : Nat → Nat) (S0 : zTS) (I : zM) (j l n nc : Nat) (th : Nat → zTh) (cs : List zCh) (d : Nat) : Prop :=
  ∀ (t : List (zN d)) (p u pa dd : Nat) (pl : Bool) (out : List Int32) (S : zTS) (post : Unit → zM → Prop), zwfT d pl t → (pl = true → (th pa).1 = 1) → pa < 5 → zAt S0 j p (ztL d t) → p + (ztL d t).length ≤ n → (p + (ztL d t).length = n ∨ (p + (ztL d t).length < n ∧ S0.2.1 10 (120 * j + (p + (ztL d t).length)) = 41)) →
    zIn cs (zcs d u p t) → out.length ≤ 240 → zwS S0 S 0 out → d < dd →
    (∀ S', zwS S0 S' (zwL (zwN (zown S0 nc) l th d ((th pa).2.1, (th pa).2.2.1)) t out).1 (zwL (zwN (zown S0 nc) l th d ((th pa).2.1, (th pa).2.2.1)) t out).2 → post () (tm o A S' I)) →
    wp_X9_writesMessage D dd post o (nI j) (nI p) (nI pa) (tm o A S I)
/-- one part: a brace is written -/
def zPB (D : zD) (o : Nat) (A : Nat → Nat) (S0 : zTS) (I : zM) (j l n nc : Nat) (th : Nat → zTh) (cs : List zCh) (d : Nat) : Prop :=
  ∀ (q : zN d) (p u pa dd : Nat) (pl : Bool) (out : List Int32) (S : zTS) (post : Unit → zM → Prop), zwfN d pl q → (pl = true → (th pa).1 = 1) → pa < 5 → zAt S0 j p (znL d q) → zin1 (znL d q) → p + (znL d q).length ≤ n →
    zIn cs (zcN d u p q) → out.length ≤ 240 → zwS S0 S 0 out → d ≤ dd →
    (∀ S', zwS S0 S' (zwN (zown S0 nc) l th d ((th pa).2.1, (th pa).2.2.1) q out).1 (zwN (zown S0 nc) l th d ((th pa).2.1, (th pa).2.2.1) q out).2 → post () (tm o A S' I)) →
    wp_X9_writesBrace D (wp_X9_writesMessage D dd) post o (nI j) (nI p) (nI pa) (tm o A S I)
theorem zwF_len {pq : Int32 × Nat} {q : zLf} {pl : Bool} {out : List Int32} (hw : zwfF pl q) (hth : zth9 S0 th) (hpq : pl = true → pq.2 ≤ 6) : (zwF l th pq q out).2.length ≤ out.length + 110 := by
  match q, hw with
  | (0, c, r), _ => show (out ++ [c]).length ≤ _; simp
  | (1, c, r), hw => show (out ++ zpd l pq.1 pq.2).length ≤ _; have := zpd_len l pq.1 pq.2 (hpq hw); rw [List.length_append]; omega
  | (2, c, a, r), ha =>
    obtain ⟨t1, t2, t3, t4, t5, t6, t7⟩ := hth a ha
    show (if (th a).1 = 0 then (-20 - nI a, out) else ((0 : Int32), out ++ ztx l (th a))).2.length ≤ _
    split
    · show out.length ≤ _; omega
    · rename_i z
      have := ztx_len (l := l) t5 (fun h => (t7 h).1) t4 z
      show (out ++ ztx l (th a)).length ≤ _
      rw [List.length_append]; omega
  | (3, c, a, r), ha =>
    obtain ⟨t1, t2, t3, t4, t5, t6, t7⟩ := hth a ha
    show (if (th a).1 = 3 then ((0 : Int32), out ++ ztx l (th a)) else (-20 - nI a, out)).2.length ≤ _
    split
    · rename_i z
      have := ztx_len (l := l) t5 (fun h => (t7 h).1) t4 (by rw [z]; decide)
      show (out ++ ztx l (th a)).length ≤ _
      rw [List.length_append]; omega
    · show out.length ≤ _; omega
  | (t + 4, c, a, g, w, e, m), hw =>
    obtain ⟨ht, ha, hw1, hw4, he, hm⟩ := hw
    show (if (th a).1 = 1 then ((0 : Int32), out ++ zsh l (th a).2.1 (th a).2.2.1 g w e (e + m)) else (-20 - nI a, out)).2.length ≤ _
    split
    · have := zsh_len (l := l) (d := (th a).2.1) (k := (th a).2.2.1) (g := g) hw4 he (show e ≤ e + m by omega) (by omega)
      show (out ++ zsh l (th a).2.1 (th a).2.2.1 g w e (e + m)).length ≤ _
      rw [List.length_append]; omega
    · show out.length ≤ _; omega
theorem zwL_len {α : Type} {one : α → List Int32 → Int32 × List Int32} : ∀ (t : List α), (∀ q ∈ t, ∀ out : List Int32, out.length ≤ 240 → (one q out).2.length ≤ 350) → ∀ out : List Int32, out.length ≤ 240 → (zwL one t out).2.length ≤ 350
  | [], _, out, ho => by show out.length ≤ _; omega
  | q :: t, h, out, ho => by
    have h1 := h q List.mem_cons_self out ho
    rw [zwL]
    split
    · exact h1
    · split
      · exact h1
      · exact zwL_len t (fun x hx => h x (List.mem_cons_of_mem _ hx)) _ (by omega)
theorem zwN_len {own : List zCo} (hth : zth9 S0 th) : ∀ (d : Nat) (pl : Bool) (q : zN d) (pq : Int32 × Nat), zwfN d pl q → (pl = true → pq.2 ≤ 6) → ∀ out : List Int32, out.length ≤ 240 → (zwN own l th d pq q out).2.length ≤ 350
  | 0, pl, q, pq, hw, hp, out, ho => by have := zwF_len (l := l) (out := out) hw hth hp; show (zwF l th pq q out).2.length ≤ _; omega
  | d + 1, pl, .inl q, pq, hw, hp, out, ho => by have := zwF_len (l := l) (out := out) hw hth hp; show (zwF l th pq q out).2.length ≤ _; omega
  | d + 1, pl, .inr (k, a, bs), pq, hw, hp, out, ho => by
    obtain ⟨ha, hl, hb, -, -⟩ := hw
    show (if (th a).1 = (if k then 1 else 2) then zwL (zwN own l th d (if k then ((th a).2.1, (th a).2.2.1) else pq)) (((zpick own l k (th a) (bs.map fun b => zkv k b.1)).bind fun i => bs[i]?).elim [] fun b => b.2) out else (-20 - nI a, out)).2.length ≤ _
    by_cases hty : (th a).1 = (if k then 1 else 2)
    · rw [if_pos hty]
      refine zwL_len _ (fun q hq o2 ho2 => ?_) out ho
      cases e : (zpick own l k (th a) (bs.map fun b => zkv k b.1)).bind fun i => bs[i]? with
      | none => rw [e] at hq; cases hq
      | some b =>
        rw [e] at hq
        obtain ⟨i, -, hi⟩ := Option.bind_eq_some_iff.mp e
        refine zwN_len hth d (pl || k) q _ ((hb b (List.mem_of_getElem? hi)).2 q hq) (fun hpk => ?_) o2 ho2
        cases k
        · exact hp (by simpa using hpk)
        · exact (hth a ha).2.2.2.2.1
    · rw [if_neg hty]; show out.length ≤ _; omega
end TM3
