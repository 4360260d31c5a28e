/-! WHAT COMES OUT, SUMS -/
/-- the greatest power of ten that is looked for -/
def zby : Nat → Nat → Nat → Nat
  | 0, _, b => b
  | g + 1, n, b => if 9 < n / b then zby g n (10 * b) else b
def zdg : Nat → Nat → Nat → List Int32
  | 0, _, _ => []
  | g + 1, n, b => if b = 0 then [] else nI (48 + n / b % 10) :: zdg g n (b / 10)
def znum (v : Int32) : List Int32 := (if v < 0 then [45] else []) ++ zdg 12 v.toInt.natAbs (zby 12 v.toInt.natAbs 1)
def zsep (c : Int32) : List (List Int32) → List Int32
  | [] => []
  | [a] => a
  | a :: r => a ++ c :: zsep c r
def zfrow (a : List Int32) : List Int32 := 91 :: zsep 32 (a.map znum) ++ [93]
/-- a thing's form; 0 of a value, 1 of a spine from its begin, 2 of a spine farther on -/
def zform : Nat → Th → List Int32
  | 0, .leaf (.inl v) => znum v
  | 0, .leaf (.inr (.inl a)) => zfrow a
  | 0, .leaf (.inr (.inr a)) => 123 :: (a.map zfrow).flatten ++ [125]
  | 0, .branch _ s _ => 40 :: zform 1 s ++ [41]
  | _ + 1, .leaf _ => []
  | 1, .branch _ x r => zform 0 x ++ zform 2 r
  | _ + 2, .branch _ x r => 59 :: zform 0 x ++ zform 2 r
def zjn (a v : Int64) : Int64 := a * 1000003 ^^^ v
def zsrow (l : List Int32) (a : Int64) : Int64 := l.foldl (fun s v => zjn s v.toInt64) (zjn a (lN l.length))
def zsum : Bool → Th → Int64 → Int64
  | true, .leaf (.inl v), a => zjn (zjn a 0) v.toInt64
  | true, .leaf (.inr (.inl l)), a => zsrow l (zjn a 1)
  | true, .leaf (.inr (.inr t)), a => t.foldl (fun s l => zsrow l s) (zjn (zjn a 2) (lN t.length))
  | true, .branch _ s _, a => zsum false s (zjn (zjn a 3) (lN (zl s).length))
  | false, .leaf _, a => a
  | false, .branch _ x r, a => zsum false r (zsum true x a)
/-! THE FLAT MACHINE. An order: what, a, b, c, place; its numbers are the model's (signs as the component has them).
1 STATEMENT 2 INT 3 GET 4 ONE 5 TWO 6 LITERAL 7 INDEX 8 BUILTIN 9 CALL 10 BEGINS 11 NEXT 12 PUT 13 PUTAT 14 ASK 15 GOTO 16 ROUND 17 FORIN 18 FORNEXT 19 SAYS 20 GIVES 21 RAISES 22 DROP 23 TRIES 24 TRIED -/
abbrev Od : Type := Nat × Nat × Nat × Int32 × Int32
/-- orders; of a function how many parameters, where its orders begin -/
abbrev Pg : Type := (Nat → Od) × (Nat → Nat × Nat)
/-- a call under way: its variables; how high the pile was; where it goes on; how much was under way -/
abbrev Fm : Type := (Nat → Option Th) × Nat × Nat × Nat
/-- what is under way: 1 for, 2 try, 3 each, 4 fold; the thing; a, b, c, d, e; a place -/
abbrev Wy : Type := Nat × Option Th × Nat × Nat × Nat × Nat × Nat × Int32
/-- steps, made, deepest, taken -/
abbrev Ct : Type := Nat × Nat × Nat × Nat
/-- where; the pile; calls; under way; shelves; counts; out; the trouble (kind, place, raised) -/
abbrev AS : Type := Nat × List Th × List Fm × List Wy × (Nat → Option Th) × Ct × List Int32 × (Nat × Int32 × Int32)
def aT (s : AS) : Nat × Int32 × Int32 := s.2.2.2.2.2.2.2
def vput (g : Nat → Option Th) (i : Nat) (v : Option Th) : Nat → Option Th := fun j => if j = i then v else g j
def aget (fr : List Fm) (sh : Nat → Option Th) (n : Nat) : Option Th := if n < 8 then sh n else match fr with
  | [] => none
  | q :: _ => q.1 (n - 8)
def aputF (fr : List Fm) (n : Nat) (v : Th) : List Fm := if n < 8 then fr else match fr with
  | [] => []
  | q :: r => (vput q.1 (n - 8) (some v), q.2) :: r
def aputS (sh : Nat → Option Th) (n : Nat) (v : Th) : Nat → Option Th := if n < 8 then vput sh n (some v) else sh
def avars (args : List Th) (v : Nat) : Option Th := args[v]?
/-- a call: so many values of the pile are its own -/
def aenter (P : Pg) (f n back : Nat) (pl : List Th) (fr : List Fm) (wy : List Wy) (sh : Nat → Option Th) (ct : Ct) (out : List Int32) (place : Int32) : AS :=
  if fr.length = 10 then (back, pl, fr, wy, sh, ct, out, (8, place, 0))
  else ((P.2 f).2, pl.drop n, (avars (pl.take n).reverse, (pl.drop n).length, back, wy.length) :: fr, wy, sh, (ct.1, ct.2.1, max ct.2.2.1 (fr.length + 1), ct.2.2.2), out, (0, -1, 0))
/-- what has come of an order: it counts, and is on the pile -/
def afin (pc : Nat) (r : Nat ⊕ Th) (pl : List Th) (fr : List Fm) (wy : List Wy) (sh : Nat → Option Th) (ct : Ct) (out : List Int32) (place : Int32) : AS := match r with
  | .inl k => (pc, pl, fr, wy, sh, ct, out, (k, place, 0))
  | .inr v => if 3000 < ct.2.1 + zm v ∧ ¬ zk v = 0 then (pc, pl, fr, wy, sh, (ct.1, ct.2.1 + zm v, ct.2.2), out, (11, place, 0)) else (pc, v :: pl, fr, wy, sh, (ct.1, ct.2.1 + zm v, ct.2.2), out, (0, -1, 0))
noncomputable def abi (b : Nat) (l : List Th) : Nat ⊕ Th := if b = 5 then zmk (zP l) else match l with
  | [x] => zbi1 b x
  | [x, y] => zbi2 b x y
  | _ => .inl 3
/-- orders 4 .. 10, once the step is paid -/
noncomputable def aworks (P : Pg) (o : Od) (pc : Nat) (pl : List Th) (fr : List Fm) (wy : List Wy) (sh : Nat → Option Th) (ct : Ct) (out : List Int32) : AS :=
  let pl1 := pl.tail
  if o.1 = 4 then afin (pc + 1) (zone (o.2.1 == 33) (pl.headD (zI 0))) pl1 fr wy sh ct out o.2.2.2.2
  else if o.1 = 5 then afin (pc + 1) (ztwo (nI o.2.1) (pl1.headD (zI 0)) (pl.headD (zI 0))) pl1.tail fr wy sh ct out o.2.2.2.2
  else if o.1 = 6 then afin (pc + 1) (zbuild (pl.take o.2.1).reverse) (pl.drop o.2.1) fr wy sh ct out o.2.2.2.2
  else if o.1 = 7 then afin (pc + 1) (zindex (pl1.headD (zI 0)) (pl.headD (zI 0))) pl1.tail fr wy sh ct out o.2.2.2.2
  else if o.1 = 8 then afin (pc + 1) (abi o.2.1 (pl.take o.2.2.1).reverse) (pl.drop o.2.2.1) fr wy sh ct out o.2.2.2.2
  else if o.1 = 9 then aenter P o.2.1 o.2.2.1 (pc + 1) pl fr wy sh ct out o.2.2.2.2
  else if zk (pl.headD (zI 0)) = 0 then (pc + 1, pl1, fr, wy, sh, ct, out, (3, o.2.2.2.2, 0))
  else (pc + 1, pl1, fr, ((if o.2.1 = 28 then 3 else 4), some (pl.headD (zI 0)), 0, 0, zn (pl.headD (zI 0)), pl1.length, fr.length, 0) :: wy, sh, ct, out, (0, -1, 0))
noncomputable def anext (P : Pg) (fuel : Nat) (o : Od) (pc : Nat) (pl : List Th) (fr : List Fm) (wy : List Wy) (sh : Nat → Option Th) (ct : Ct) (out : List Int32) : AS := match wy with
  | [] => (pc, pl, fr, wy, sh, ct, out, (0, -1, 0))
  | (k, t, a, b, c, d, e, p) :: r =>
    if b < c then (if ct.1 = fuel then (pc + 1, pl, fr, wy, sh, ct, out, (10, o.2.2.2.2, 0))
      else if fr.length = 10 then (pc + 1, pl, fr, wy, sh, (ct.1 + 1, ct.2), out, (8, o.2.2.2.2, 0))
      else aenter P o.2.2.1 (if k = 3 then 1 else 2) pc (zel (t.getD (zI 0)) b :: pl) fr ((k, t, a, b + 1, c, d, e, p) :: r) sh (ct.1 + 1, ct.2) out o.2.2.2.2)
    else if k = 4 then (pc + 1, pl, fr, r, sh, ct, out, (0, -1, 0))
    else afin (pc + 1) (zeach (t.getD (zI 0)) (pl.take (pl.length - d)).reverse) (pl.drop (pl.length - d)) fr r sh ct out o.2.2.2.2
noncomputable def aputat (o : Od) (pc : Nat) (pl : List Th) (fr : List Fm) (wy : List Wy) (sh : Nat → Option Th) (ct : Ct) (out : List Int32) : AS :=
  let two := o.2.2.1 ≠ 0
  let rest := if two then pl.drop 3 else pl.drop 2
  match aget fr sh o.2.1 with
  | none => (pc + 1, rest, fr, wy, sh, ct, out, (7, o.2.2.2.1, 0))
  | some x => match (if two then zput2 x (pl.getD 2 (zI 0)) (pl.getD 1 (zI 0)) (pl.getD 0 (zI 0)) else zput1 x (pl.getD 1 (zI 0)) (pl.getD 0 (zI 0))) with
    | .inl (k, q) => (pc + 1, rest, fr, wy, sh, ct, out, (k, (if q = 0 then o.2.2.2.2 else nI (o.2.2.1 - 1)), 0))
    | .inr v => if 3000 < ct.2.1 + zm v then (pc + 1, rest, fr, wy, sh, (ct.1, ct.2.1 + zm v, ct.2.2), out, (11, o.2.2.2.2, 0))
      else (pc + 1, rest, aputF fr o.2.1 v, wy, aputS sh o.2.1 v, (ct.1, ct.2.1 + zm v, ct.2.2), out, (0, -1, 0))
def afornext (fuel : Nat) (o : Od) (pc : Nat) (pl : List Th) (fr : List Fm) (wy : List Wy) (sh : Nat → Option Th) (ct : Ct) (out : List Int32) : AS :=
  if ct.1 = fuel then (pc + 1, pl, fr, wy, sh, ct, out, (10, o.2.2.2.2, 0)) else match wy with
  | [] => (pc, pl, fr, wy, sh, ct, out, (0, -1, 0))
  | (k, t, a, b, c, d, e, p) :: r =>
    if b = c then (o.2.1, pl, fr, r, sh, (ct.1 + 1, ct.2), out, (0, -1, 0))
    else
      let v := match t with
        | none => zI (nI b)
        | some t => zel t b
      (pc + 1, pl, aputF fr o.2.2.1 v, (k, t, a, b + 1, c, d, e, p) :: r, aputS sh o.2.2.1 v, (ct.1 + 1, ct.2), out, (0, -1, 0))
/-- one order -/
noncomputable def doA (P : Pg) (fuel : Nat) : AS → AS
  | (pc, pl, fr, wy, sh, ct, out, tr) =>
    let o := P.1 pc
    let x := pl.headD (zI 0)
    if o.1 = 1 ∨ o.1 = 16 then (if ct.1 = fuel then (pc + 1, pl, fr, wy, sh, ct, out, (10, o.2.2.2.2, 0)) else (pc + 1, pl, fr, wy, sh, (ct.1 + 1, ct.2), out, tr))
    else if o.1 = 2 then (pc + 1, zI o.2.2.2.1 :: pl, fr, wy, sh, ct, out, tr)
    else if o.1 = 3 then (match aget fr sh o.2.1 with
      | none => (pc + 1, pl, fr, wy, sh, ct, out, (7, o.2.2.2.2, 0))
      | some v => (pc + 1, v :: pl, fr, wy, sh, ct, out, tr))
    else if o.1 < 11 then (if ct.1 = fuel then (pc + 1, pl, fr, wy, sh, ct, out, (10, o.2.2.2.2, 0)) else aworks P o pc pl fr wy sh (ct.1 + 1, ct.2) out)
    else if o.1 = 11 then anext P fuel o pc pl fr wy sh ct out
    else if o.1 = 12 then (pc + 1, pl.tail, aputF fr o.2.1 x, wy, aputS sh o.2.1 x, ct, out, tr)
    else if o.1 = 13 then aputat o pc pl fr wy sh ct out
    else if o.1 = 14 then (if zk x ≠ 0 then (pc + 1, pl.tail, fr, wy, sh, ct, out, (3, o.2.2.2.2, 0)) else ((if zv x = 0 then o.2.1 else pc + 1), pl.tail, fr, wy, sh, ct, out, tr))
    else if o.1 = 15 then (o.2.1, pl, fr, wy, sh, ct, out, tr)
    else if o.1 = 17 then (if zk x = 0 ∧ zv x < 0 then (pc + 1, pl.tail, fr, wy, sh, ct, out, (1, o.2.2.2.2, 0)) else (pc + 1, pl.tail, fr, (1, (if zk x = 0 then none else some x), 0, 0, (if zk x = 0 then (zv x).toNatClampNeg else zn x), 0, fr.length, 0) :: wy, sh, ct, out, tr))
    else if o.1 = 18 then afornext fuel o pc pl fr wy sh ct out
    else if o.1 = 19 then (pc + 1, pl.tail, fr, wy, sh, ct, out ++ zform 0 x ++ [10], tr)
    else if o.1 = 20 then (match fr with
      | [] => (pc, pl, fr, wy, sh, ct, out, tr)
      | (_, base, back, ws) :: r => (back, x :: pl.drop (pl.length - base), r, wy.drop (wy.length - ws), sh, ct, out, tr))
    else if o.1 = 21 then (pc + 1, pl.tail, fr, wy, sh, ct, out, (if zk x ≠ 0 then (3, o.2.2.2.2, 0) else (9, o.2.2.2.2, zv x)))
    else if o.1 = 22 then (pc + 1, pl.tail, fr, wy, sh, ct, out, tr)
    else if o.1 = 23 then (pc + 1, pl, fr, (2, none, o.2.1, o.2.2.1, 0, pl.length, fr.length, o.2.2.2.2) :: wy, sh, ct, out, tr)
    else (o.2.1, pl, fr, wy.tail, sh, ct, out, tr)
/-- what is under way from the latest try on -/
def alast : List Wy → List Wy
  | [] => []
  | q :: r => if q.1 = 2 then q :: r else alast r
/-- a trouble goes to the latest try -/
def takeA : AS → AS
  | (pc, pl, fr, wy, sh, ct, out, tr) => if 9 < tr.1 then (pc, pl, fr, wy, sh, ct, out, tr) else match alast wy with
    | [] => (pc, pl, fr, wy, sh, ct, out, tr)
    | (_, _, a, b, _, d, e, p) :: r =>
      let fr1 := fr.drop (fr.length - e)
      let v := zI (if tr.1 = 9 then tr.2.2 else nI tr.1)
      (a, pl.drop (pl.length - d), aputF fr1 b v, r, aputS sh b v, (ct.1, ct.2.1 + 300, ct.2.2.1, ct.2.2.2 + 1), out, if 3000 < ct.2.1 + 300 then (11, p, 0) else (0, -1, 0))
noncomputable def stA (P : Pg) (fuel : Nat) (s : AS) : AS := if (aT (doA P fuel s)).1 = 0 then doA P fuel s else takeA (doA P fuel s)
noncomputable def itA (P : Pg) (fuel : Nat) : Nat → AS → AS
  | 0, s => s
  | n + 1, s => itA P fuel n (stA P fuel s)
/-- so many values an order takes -/
def aNeed (o : Od) : Nat := if o.1 = 4 ∨ o.1 = 10 ∨ o.1 = 12 ∨ o.1 = 14 ∨ o.1 = 17 ∨ o.1 = 19 ∨ o.1 = 20 ∨ o.1 = 21 ∨ o.1 = 22 then 1 else if o.1 = 5 ∨ o.1 = 7 then 2 else if o.1 = 6 then o.2.1 else if o.1 = 8 ∨ o.1 = 9 then o.2.2.1 else if o.1 = 13 then (if o.2.2.1 = 0 then 2 else 3) else 0
def aF11 (pl : List Th) : List Wy → Prop
  | [] => False
  | (k, t, _, b, c, d, _, _) :: _ => (k = 3 ∨ k = 4) ∧ (∃ x, t = some x ∧ ¬ zk x = 0 ∧ c = zn x) ∧ b ≤ c ∧ d ≤ pl.length ∧ (k = 4 → 1 ≤ pl.length)
def aF18 : List Wy → Prop
  | [] => False
  | (k, t, _, b, c, _, _, _) :: _ => k = 1 ∧ b ≤ c ∧ c < 2 ^ 31 ∧ ∀ x, t = some x → ¬ zk x = 0 ∧ c = zn x
def aF20 (pl : List Th) (wy : List Wy) : List Fm → Prop
  | [] => False
  | (_, base, _, ws) :: _ => base + 1 ≤ pl.length ∧ ws ≤ wy.length
/-- an order finds what it wants -/
def aFit (P : Pg) : AS → Prop
  | (pc, pl, fr, wy, _, _, out, _) => ¬ (P.1 pc).1 = 0 ∧ aNeed (P.1 pc) ≤ pl.length ∧ ((P.1 pc).1 = 11 → aF11 pl wy) ∧ ((P.1 pc).1 = 18 → aF18 wy) ∧ ((P.1 pc).1 = 24 → 1 ≤ wy.length) ∧ ((P.1 pc).1 = 20 → aF20 pl wy fr) ∧ ((P.1 pc).1 = 19 → out.length + (zform 0 (pl.headD (zI 0))).length + 1 < 2 ^ 31)
/-- in a trouble each try has what it goes back to -/
def aTk (s : AS) : Prop := ¬ (aT s).1 = 0 → ∀ q ∈ s.2.2.2.1, q.1 = 2 → q.2.2.2.2.2.1 ≤ s.2.1.length ∧ 1 ≤ q.2.2.2.2.2.2.1 ∧ q.2.2.2.2.2.2.1 ≤ s.2.2.1.length ∧ q.2.2.2.1 < 22
/-- room for one more order, and all that it wants -/
def aGood (P : Pg) (fuel : Nat) (s : AS) : Prop := s.2.1.length ≤ 8300 ∧ s.2.2.1.length ≤ 10 ∧ 1 ≤ s.2.2.1.length ∧ s.2.2.2.1.length ≤ 390 ∧ (∀ t ∈ s.2.1, ZW t) ∧ s.2.2.2.2.2.1.2.1 ≤ 3000 ∧ aT s = (0, -1, 0) ∧ aFit P s ∧ aTk (doA P fuel s)
/-- one state comes to another, with room all the way -/
def aRch (P : Pg) (fuel : Nat) (s s' : AS) : Prop := ∃ n, itA P fuel n s = s' ∧ ∀ k, k < n → aGood P fuel (itA P fuel k s)
theorem itA_add (P : Pg) (fuel : Nat) : ∀ n m s, itA P fuel (n + m) s = itA P fuel m (itA P fuel n s)
  | 0, m, s => by rw [Nat.zero_add]; rfl
  | n + 1, m, s => by rw [Nat.add_right_comm]; exact itA_add P fuel n m (stA P fuel s)
theorem aRch.rf (P : Pg) (fuel : Nat) (s : AS) : aRch P fuel s s := ⟨0, rfl, fun k hk => absurd hk (Nat.not_lt_zero k)⟩
theorem aRch.trans {P : Pg} {fuel : Nat} {s s' s'' : AS} (h1 : aRch P fuel s s') (h2 : aRch P fuel s' s'') : aRch P fuel s s'' := by
  obtain ⟨n, e1, g1⟩ := h1
  obtain ⟨m, e2, g2⟩ := h2
  refine ⟨n + m, by rw [itA_add, e1, e2], fun k hk => ?_⟩
  by_cases h : k < n
  · exact g1 k h
  · have e : k = n + (k - n) := by omega
    rw [e, itA_add, e1]
    exact g2 _ (by omega)
theorem aRch.one {P : Pg} {fuel : Nat} {s s' : AS} (hg : aGood P fuel s) (h : stA P fuel s = s') : aRch P fuel s s' := ⟨1, h, fun k hk => by
  have : k = 0 := by omega
  subst this
  exact hg⟩
theorem aRch.step {P : Pg} {fuel : Nat} {s s1 s' : AS} (hg : aGood P fuel s) (h : stA P fuel s = s1) (h2 : aRch P fuel s1 s') : aRch P fuel s s' := (aRch.one hg h).trans h2
