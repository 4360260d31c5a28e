/-! ABSTRACT THINGS: an INT, a ROW, a TABLE (leaves), a PACK (a branch over a spine of branches) -/
abbrev Lf : Type := Int32 ⊕ List Int32 ⊕ List (List Int32)
abbrev Th : Type := Lean.RArray Lf
abbrev zI (v : Int32) : Th := .leaf (.inl v)
abbrev zR (a : List Int32) : Th := .leaf (.inr (.inl a))
abbrev zT (a : List (List Int32)) : Th := .leaf (.inr (.inr a))
def zsp : List Th → Th
  | [] => .leaf (.inl 0)
  | x :: r => .branch 0 x (zsp r)
def zP (l : List Th) : Th := .branch 3 (zsp l) (.leaf (.inl 0))
def zl : Th → List Th
  | .leaf _ => []
  | .branch _ x r => x :: zl r
theorem zl_zsp : ∀ l, zl (zsp l) = l
  | [] => rfl
  | x :: r => by show x :: zl (zsp r) = _; rw [zl_zsp r]
/-- the kind -/
def zk : Th → Nat
  | .leaf (.inl _) => 0
  | .leaf (.inr (.inl _)) => 1
  | .leaf (.inr (.inr _)) => 2
  | .branch _ _ _ => 3
/-- what is in it -/
def ze : Th → List Th
  | .leaf (.inl _) => []
  | .leaf (.inr (.inl a)) => a.map (fun v => .leaf (.inl v))
  | .leaf (.inr (.inr a)) => a.map (fun r => .leaf (.inr (.inl r)))
  | .branch _ s _ => zl s
/-- its size -/
def zn : Th → Nat
  | .leaf (.inl _) => 0
  | .leaf (.inr (.inl a)) => a.length
  | .leaf (.inr (.inr a)) => a.length
  | .branch _ s _ => (zl s).length
def zis (a : List (List Int32)) : Nat := (a.map List.length).sum
/-- what it counts as made -/
def zm : Th → Nat
  | .leaf (.inl _) => 0
  | .leaf (.inr (.inl a)) => 4 + a.length
  | .leaf (.inr (.inr a)) => 4 + 4 * a.length + zis a
  | .branch _ s _ => 4 + 2 * (zl s).length
/-- bulk; the end of a spine stands for the pack's own one -/
def zb : Th → Nat
  | .leaf (.inl _) => 1
  | .leaf (.inr (.inl a)) => 1 + a.length
  | .leaf (.inr (.inr a)) => 1 + a.length + zis a
  | .branch k s e => if k = 3 then zb s else zb s + zb e
def zd : Th → Nat
  | .leaf _ => 0
  | .branch k s e => if k = 3 then zd s + 1 else max (zd s) (zd e)
/-- well made, and within the limits -/
def zw : Bool → Th → Prop
  | true, .leaf (.inl _) => True
  | true, .leaf (.inr (.inl a)) => a.length ≤ 64
  | true, .leaf (.inr (.inr a)) => a.length ≤ 20 ∧ zis a ≤ 200 ∧ ∀ r ∈ a, r.length ≤ 64
  | true, .branch k s e => k = 3 ∧ e = .leaf (.inl 0) ∧ (zl s).length ≤ 20 ∧ zb s ≤ 600 ∧ zd s ≤ 3 ∧ zw false s
  | false, .leaf x => x = .inl 0
  | false, .branch k x r => k = 0 ∧ zw true x ∧ zw false r
abbrev ZW (t : Th) : Prop := zw true t
/-- too great -/
def zgt : Th → Bool
  | .leaf (.inl _) => false
  | .leaf (.inr (.inl a)) => decide (64 < a.length)
  | .leaf (.inr (.inr a)) => decide (20 < a.length) || decide (200 < zis a)
  | .branch k s e => decide (20 < (zl s).length) || decide (4 < zd (.branch k s e)) || decide (600 < zb (.branch k s e))
def zmk (t : Th) : Nat ⊕ Th := if zgt t = true then .inl 2 else .inr t
def zv : Th → Int32
  | .leaf (.inl v) => v
  | _ => 0
def zr : Th → List Int32
  | .leaf (.inr (.inl a)) => a
  | _ => []
def zt : Th → List (List Int32)
  | .leaf (.inr (.inr a)) => a
  | _ => []
/-- a thing of a kind out of what is in it -/
def zof (k : Nat) (l : List Th) : Th := if k = 1 then zR (l.map zv) else if k = 2 then zT (l.map zr) else zP l
def zel (t : Th) (i : Nat) : Th := (ze t).getD i (zI 0)
theorem zn_ze (t : Th) : zn t = (ze t).length := by
  match t with
  | .leaf (.inl _) => rfl
  | .leaf (.inr (.inl a)) => exact (List.length_map ..).symm
  | .leaf (.inr (.inr a)) => exact (List.length_map ..).symm
  | .branch _ s _ => rfl
theorem zb_zsp : ∀ l, zb (zsp l) = (l.map zb).sum + 1
  | [] => rfl
  | x :: r => by
    show (if 0 = 3 then zb x else zb x + zb (zsp r)) = _
    rw [if_neg (by decide), zb_zsp r, List.map_cons, List.sum_cons]; omega
theorem zb_zP (l : List Th) : zb (zP l) = (l.map zb).sum + 1 := by
  show (if 3 = 3 then zb (zsp l) else _) = _
  rw [if_pos rfl, zb_zsp]
theorem zd_zP (l : List Th) : zd (zP l) = zd (zsp l) + 1 := if_pos rfl
theorem zd_cons (x : Th) (r : List Th) : zd (zsp (x :: r)) = max (zd x) (zd (zsp r)) := if_neg (by decide)
theorem zl_zP (l : List Th) : ze (zP l) = l := zl_zsp l
theorem zd_mem : ∀ (l : List Th) (x : Th), x ∈ l → zd x ≤ zd (zsp l)
  | y :: r, x, h => by
    rw [zd_cons]
    rcases List.mem_cons.mp h with rfl | h
    · exact Nat.le_max_left ..
    · exact Nat.le_trans (zd_mem r x h) (Nat.le_max_right ..)
theorem zb_pos : ∀ t : Th, 1 ≤ zb t
  | .leaf (.inl _) => Nat.le_refl 1
  | .leaf (.inr (.inl a)) => Nat.le_add_right ..
  | .leaf (.inr (.inr a)) => by show 1 ≤ 1 + _ + _; omega
  | .branch k s e => by
    show 1 ≤ (if k = 3 then zb s else zb s + zb e)
    split
    · exact zb_pos s
    · exact Nat.le_trans (zb_pos s) (Nat.le_add_right ..)
/-- a spine that is well made -/
theorem zw_spine : ∀ s : Th, zw false s → s = zsp (zl s) ∧ ∀ x ∈ zl s, ZW x
  | .leaf x, h => by
    have h : x = .inl 0 := h
    subst h
    exact ⟨rfl, fun x hx => by cases hx⟩
  | .branch k x r, h => by
    obtain ⟨rfl, h2, h3⟩ : k = 0 ∧ zw true x ∧ zw false r := h
    obtain ⟨e, q⟩ := zw_spine r h3
    refine ⟨?_, fun y hy => ?_⟩
    · show _ = Lean.RArray.branch 0 x (zsp (zl r))
      rw [← e]
    · rcases List.mem_cons.mp hy with rfl | hy
      · exact h2
      · exact q y hy
theorem zw_zsp : ∀ l : List Th, (∀ x ∈ l, ZW x) → zw false (zsp l)
  | [], _ => rfl
  | x :: r, h => ⟨rfl, h x List.mem_cons_self, zw_zsp r fun y hy => h y (List.mem_cons_of_mem _ hy)⟩
theorem zw_pack {l : List Th} : ZW (zP l) ↔ l.length ≤ 20 ∧ (l.map zb).sum + 1 ≤ 600 ∧ zd (zsp l) ≤ 3 ∧ ∀ x ∈ l, ZW x := by
  constructor
  · rintro ⟨-, -, h1, h2, h3, h4⟩
    rw [zl_zsp] at h1
    rw [zb_zsp] at h2
    refine ⟨h1, h2, h3, ?_⟩
    have := (zw_spine _ h4).2
    rw [zl_zsp] at this
    exact this
  · rintro ⟨h1, h2, h3, h4⟩
    refine ⟨rfl, rfl, ?_, ?_, h3, zw_zsp l h4⟩
    · rw [zl_zsp]; exact h1
    · rw [zb_zsp]; exact h2
/-- the four kinds -/
theorem zcases {t : Th} (h : ZW t) : (∃ v, t = zI v) ∨ (∃ a, t = zR a ∧ a.length ≤ 64) ∨ (∃ a, t = zT a ∧ a.length ≤ 20 ∧ zis a ≤ 200 ∧ ∀ r ∈ a, r.length ≤ 64) ∨ ∃ l, t = zP l ∧ l.length ≤ 20 ∧ (l.map zb).sum + 1 ≤ 600 ∧ zd (zsp l) ≤ 3 ∧ ∀ x ∈ l, ZW x := by
  match t, h with
  | .leaf (.inl v), _ => exact Or.inl ⟨v, rfl⟩
  | .leaf (.inr (.inl a)), h => exact Or.inr (Or.inl ⟨a, rfl, h⟩)
  | .leaf (.inr (.inr a)), h => exact Or.inr (Or.inr (Or.inl ⟨a, rfl, h⟩))
  | .branch k s e, h =>
    obtain ⟨rfl, rfl, h1, h2, h3, h4⟩ : k = 3 ∧ e = .leaf (.inl 0) ∧ (zl s).length ≤ 20 ∧ zb s ≤ 600 ∧ zd s ≤ 3 ∧ zw false s := h
    obtain ⟨e1, e2⟩ := zw_spine s h4
    refine Or.inr (Or.inr (Or.inr ⟨zl s, ?_, h1, ?_, ?_, e2⟩))
    · show _ = Lean.RArray.branch 3 (zsp (zl s)) _
      rw [← e1]
    · rw [← zb_zsp, ← e1]; exact h2
    · rw [← e1]; exact h3
/-- by what is in it -/
theorem zind {P : Th → Prop} (hI : ∀ v, P (zI v)) (hR : ∀ a, a.length ≤ 64 → P (zR a)) (hT : ∀ a, a.length ≤ 20 → zis a ≤ 200 → (∀ r ∈ a, r.length ≤ 64) → P (zT a)) (hP : ∀ l : List Th, l.length ≤ 20 → (l.map zb).sum + 1 ≤ 600 → zd (zsp l) ≤ 3 → (∀ x ∈ l, ZW x ∧ P x) → P (zP l)) : ∀ t, ZW t → P t := by
  intro t h
  have key : ∀ t : Th, (ZW t → P t) ∧ (zw false t → ∀ x ∈ zl t, ZW x ∧ P x) := by
    intro t
    induction t with
    | leaf x =>
      refine ⟨fun h => ?_, fun _ x hx => by cases hx⟩
      match x, h with
      | .inl v, _ => exact hI v
      | .inr (.inl a), h => exact hR a h
      | .inr (.inr a), h => exact hT a h.1 h.2.1 h.2.2
    | branch k s e i1 i2 =>
      refine ⟨fun h => ?_, fun h x hx => ?_⟩
      · obtain ⟨rfl, rfl, h1, h2, h3, h4⟩ : k = 3 ∧ e = .leaf (.inl 0) ∧ (zl s).length ≤ 20 ∧ zb s ≤ 600 ∧ zd s ≤ 3 ∧ zw false s := h
        obtain ⟨e1, e2⟩ := zw_spine s h4
        have e3 : Lean.RArray.branch 3 s (.leaf (.inl 0)) = zP (zl s) := by
          show _ = Lean.RArray.branch 3 (zsp (zl s)) _
          rw [← e1]
        rw [e3]
        refine hP _ h1 ?_ ?_ (i1.2 h4)
        · rw [← zb_zsp, ← e1]; exact h2
        · rw [← e1]; exact h3
      · obtain ⟨rfl, h2, h3⟩ : k = 0 ∧ zw true s ∧ zw false e := h
        rcases List.mem_cons.mp hx with rfl | hx
        · exact ⟨h2, i1.1 h2⟩
        · exact i2.2 h3 x hx
  exact (key t).1 h
theorem zmk_ok {t : Th} (h : ZW t) : zmk t = .inr t := by
  have : zgt t = false := by
    rcases zcases h with ⟨v, rfl⟩ | ⟨a, rfl, h1⟩ | ⟨a, rfl, h1, h2, h3⟩ | ⟨l, rfl, h1, h2, h3, h4⟩
    · rfl
    · exact decide_eq_false (by omega)
    · show (decide _ || decide _) = false
      rw [decide_eq_false (by omega), decide_eq_false (by omega)]; rfl
    · show (decide (20 < (zl (zsp l)).length) || decide (4 < zd (zP l)) || decide (600 < zb (zP l))) = false
      rw [zl_zsp, zd_zP, zb_zP, decide_eq_false (by omega), decide_eq_false (by omega), decide_eq_false (by omega)]; rfl
  unfold zmk
  rw [this]; rfl
/-- what has passed the asking is within the limits -/
theorem zmk_pack {l : List Th} (hl : ∀ x ∈ l, ZW x) {t : Th} (h : zmk (zP l) = .inr t) : t = zP l ∧ ZW (zP l) := by
  unfold zmk at h
  split at h
  · cases h
  · rename_i h1
    cases h
    refine ⟨rfl, zw_pack.mpr ?_⟩
    have h1 : ¬ (decide (20 < (zl (zsp l)).length) || decide (4 < zd (zP l)) || decide (600 < zb (zP l))) = true := h1
    rw [zl_zsp, zd_zP, zb_zP] at h1
    simp only [Bool.or_eq_true, decide_eq_true_eq] at h1
    exact ⟨by omega, by omega, by omega, hl⟩
/-! SIGNS -/
def zdv (s : Int32) : Bool := decide (s = 47) || decide (s = 37)
def zact (s a b : Int32) : Int32 :=
  if s = 43 then a + b else if s = 45 then a - b else if s = 42 then a * b else if s = 47 then a / b else if s = 37 then a - a / b * b else if s = 38 then a &&& b else if s = 124 then a ||| b
  else if s = 60 then (if a < b then 1 else 0) else if s = 62 then (if b < a then 1 else 0) else if s = 317 then (if a = b then 1 else 0) else if s = 289 then (if a = b then 0 else 1)
  else if s = 316 then (if a ≤ b then 1 else 0) else (if b ≤ a then 1 else 0)
def zSg : List Int32 := [43, 45, 42, 47, 37, 38, 124, 60, 62, 317, 289, 316, 318]
/-- a sign as the model has it -/
def zsM (s : Int32) : Int32 := if s = 317 then 256 else if s = 289 then 257 else if s = 316 then 258 else if s = 318 then 259 else s
def zrw : Lf → Nat → Option (List Int32)
  | .inl _, _ => none
  | .inr (.inl a), _ => some a
  | .inr (.inr t), k => some (t.getD k [])
def zrv : Lf → Int32
  | .inl v => v
  | _ => 0
def zlk : Option (List Int32) → Option (List Int32) → Bool
  | some a, some b => a.length == b.length
  | _, _ => true
/-- two rows, or a row and an INT; none where a divisor is 0 -/
def zr2 (s v w : Int32) (p q : Option (List Int32)) : Option (List Int32) :=
  let n := match p with
    | some a => a.length
    | none => (q.getD []).length
  if zdv s = true ∧ 0 ∈ q.getD (List.replicate n w) then none else some (List.zipWith (zact s) (p.getD (List.replicate n v)) (q.getD (List.replicate n w)))
def zallS : List (Option (List Int32)) → Option (List (List Int32))
  | [] => some []
  | none :: _ => none
  | some a :: r => (zallS r).map (a :: ·)
def zisT : Lf → Bool
  | .inr (.inr _) => true
  | _ => false
def zlen2 (x y : Lf) : Nat := match x, y with
  | .inr (.inr a), _ => a.length
  | _, .inr (.inr b) => b.length
  | _, _ => 1
def zun (x y : Lf) : Bool := (match x, y with
  | .inr (.inr a), .inr (.inr b) => a.length != b.length
  | _, _ => false) || (List.range (zlen2 x y)).any (fun k => !zlk (zrw x k) (zrw y k))
def ztwoL (s : Int32) (x y : Lf) : Nat ⊕ Th := match x, y with
  | .inl v, .inl w => if zdv s = true ∧ w = 0 then .inl 6 else .inr (zI (zact s v w))
  | x, y => if zun x y = true then .inl 4 else if zisT x = true ∨ zisT y = true then (match zallS ((List.range (zlen2 x y)).map (fun k => zr2 s (zrv x) (zrv y) (zrw x k) (zrw y k))) with
      | none => .inl 6
      | some a => .inr (zT a))
    else (match zr2 s (zrv x) (zrv y) (zrw x 0) (zrw y 0) with
      | none => .inl 6
      | some a => .inr (zR a))
def ztwo (s : Int32) : Th → Th → Nat ⊕ Th
  | .leaf x, .leaf y => ztwoL s x y
  | _, _ => .inl 3
def zone1 (nt : Bool) (a : Int32) : Int32 := if nt = true then (if a = 0 then 1 else 0) else 0 - a
def zone (nt : Bool) : Th → Nat ⊕ Th
  | .leaf (.inl v) => .inr (zI (zone1 nt v))
  | .leaf (.inr (.inl a)) => .inr (zR (a.map (zone1 nt)))
  | .leaf (.inr (.inr a)) => .inr (zT (a.map (List.map (zone1 nt))))
  | .branch _ _ _ => .inl 3
/-! LITERALS, PLACES -/
def zbuild (l : List Th) : Nat ⊕ Th := if l.all (fun t => zk t == 0) = true then zmk (zof 1 l) else if l.all (fun t => zk t == 1) = true then zmk (zof 2 l) else .inl 3
def zix (i : Int32) (n : Nat) : Option Nat := if i < 0 then none else if i.toNatClampNeg < n then some i.toNatClampNeg else none
def zixs (l : List Int32) (n : Nat) : Option (List Nat) := match l with
  | [] => some []
  | i :: r => match zix i n, zixs r n with
    | some a, some b => some (a :: b)
    | _, _ => none
def zindex (x i : Th) : Nat ⊕ Th := if zk x = 0 ∨ 1 < zk i then .inl 3 else if zk i = 0 then (match zix (zv i) (zn x) with
    | none => .inl 5
    | some k => .inr (zel x k))
  else (match zixs (zr i) (zn x) with
    | none => .inl 5
    | some ks => zmk (zof (zk x) (ks.map (zel x))))
/-- N [E] = E: what was there, the place, the new one; the trouble's place: 0 the first bracket, 1 the second -/
def zput1 (x i v : Th) : (Nat × Nat) ⊕ Th :=
  if zk x = 0 ∨ zk i ≠ 0 ∨ (zk x = 1 ∧ zk v ≠ 0) ∨ (zk x = 2 ∧ zk v ≠ 1) then .inl (3, 0) else match zix (zv i) (zn x) with
    | none => .inl (5, 0)
    | some k => match zmk (zof (zk x) ((ze x).set k v)) with
      | .inl e => .inl (e, 0)
      | .inr t => .inr t
def zput2 (x i j v : Th) : (Nat × Nat) ⊕ Th :=
  if zk x ≠ 2 ∨ zk i ≠ 0 ∨ zk j ≠ 0 ∨ zk v ≠ 0 then .inl (3, 0) else match zix (zv i) (zn x) with
    | none => .inl (5, 0)
    | some k => match zix (zv j) (zr (zel x k)).length with
      | none => .inl (5, 1)
      | some q => match zmk (zT ((zt x).set k ((zr (zel x k)).set q (zv v)))) with
        | .inl e => .inl (e, 0)
        | .inr t => .inr t
/-- what comes of each -/
def zeach (x : Th) (l : List Th) : Nat ⊕ Th := if zk x = 3 then zmk (zP l) else if l = [] then .inr (if zk x = 1 then zR [] else zT []) else zbuild l
/-! BUILT-INS -/
def zneg (n : Int32) : Int := if n < 0 then - n.toInt else n.toInt
/-- a row whose INTS are put in order from the left; the list is turned round -/
def zins (key : Int32 → Int32) (v : Int32) : List Int32 → List Int32
  | [] => [v]
  | x :: r => if key v < key x then x :: zins key v r else v :: x :: r
def zsort (key : Int32 → Int32) (l : List Int32) : List Int32 := (l.foldl (fun acc v => zins key v acc) []).reverse
def zscan (a : Int32) : List Int32 → List Int32
  | [] => []
  | x :: r => (a + x) :: zscan (a + x) r
def zfold (b : Nat) (l : List Int32) : Option Int32 := if b = 9 then some (l.foldl (· + ·) 0) else match l with
  | [] => none
  | x :: r => some (r.foldl (fun v w => if b = 10 then (if v < w then w else v) else (if w < v then w else v)) x)
def zfolds (b : Nat) : List (List Int32) → Option (List Int32)
  | [] => some []
  | a :: r => match zfold b a, zfolds b r with
    | some x, some y => some (x :: y)
    | _, _ => none
def zstr (d : Th) (l : List Th) (m : Int) (n : Nat) : List Th := (List.range n).map (fun k : Nat => if 0 ≤ m + (k : Int) then l.getD (m + (k : Int)).toNat d else d)
def zdf (k : Nat) : Th := if k = 2 then zR [] else zI 0
def zcut : List Int32 → List Int32 → List (List Int32)
  | _, [] => []
  | x, n :: r => x.take n.toNatClampNeg :: zcut (x.drop n.toNatClampNeg) r
def zsumI (l : List Int32) : Int := (l.map Int32.toInt).sum
def zfind (a : List Int32) (v : Int32) : Int32 := match a.findIdx? (fun x => x == v) with
  | some k => nI k
  | none => -1
def zpick : List Th → List Int32 → List Th
  | x :: r, b :: q => if b = 0 then zpick r q else x :: zpick r q
  | _, _ => []
def zmax : List Nat → Nat
  | [] => 0
  | a :: r => max a (zmax r)
def zmost (l : List Int32) : Nat := zmax (l.map (fun v => if v < 0 then 0 else v.toNatClampNeg + 1))
def zgroup (l : List Int32) : List (List Int32) := (List.range (zmost l)).map (fun i => ((List.range l.length).filter (fun j => l.getD j 0 == nI i)).map nI)
def zturn (a : List (List Int32)) : List (List Int32) := (List.range (zmax (a.map List.length))).map (fun i => a.filterMap (fun r => r[i]?))
def zflat (x : Th) : Option (List Int32) := if zk x = 2 then some (zt x).flatten else if zk x = 3 then (if (ze x).all (fun t => decide (zk t < 2)) = true then some ((ze x).map (fun t => if zk t = 0 then [zv t] else zr t)).flatten else none) else none
def zbi1 (b : Nat) (x : Th) : Nat ⊕ Th :=
  if b < 3 then (if zk x ≠ 0 then .inl 3 else if (if b = 2 then 20 else 64) < (zv x).toInt then .inl 2 else if zv x < 0 then .inl 1 else if b = 0 then .inr (zR (List.replicate (zv x).toNatClampNeg 0)) else if b = 1 then .inr (zR ((List.range (zv x).toNatClampNeg).map nI)) else .inr (zP (List.replicate (zv x).toNatClampNeg (zI 0))))
  else if b = 4 then (if zk x ≠ 1 then .inl 3 else if 20 < (zr x).length ∨ (∃ v ∈ zr x, 64 < v.toInt) ∨ 200 < ((zr x).map Int32.toNatClampNeg).sum then .inl 2 else if ∃ v ∈ zr x, v < 0 then .inl 1 else .inr (zT ((zr x).map (fun v => List.replicate v.toNatClampNeg 0))))
  else if b = 6 then (if zk x = 0 then .inl 3 else .inr (zI (nI (zn x))))
  else if b = 7 then (if zk x ≠ 2 then .inl 3 else .inr (zR ((zt x).map (fun r => nI r.length))))
  else if b = 8 then .inr (zI (nI (zk x)))
  else if b < 12 then (if zk x = 0 then (if b = 9 then .inr x else .inl 3) else if zk x = 1 then (match zfold b (zr x) with
      | some v => .inr (zI v)
      | none => .inl 5) else if zk x = 2 then (match zfolds b (zt x) with
      | some a => .inr (zR a)
      | none => .inl 5) else .inl 3)
  else if b < 14 then (if zk x = 1 then .inr (zR (if b = 12 then zscan 0 (zr x) else zsort id (zr x))) else if zk x = 2 then .inr (zT ((zt x).map (fun r => if b = 12 then zscan 0 r else zsort id r))) else .inl 3)
  else if b = 14 then (if zk x = 1 then .inr (zR (zsort (fun m => (zr x).getD m.toNatClampNeg 0) ((List.range (zr x).length).map nI))) else .inl 3)
  else if b = 15 then (if zk x = 0 then .inl 3 else .inr (zof (zk x) (ze x).reverse))
  else if b = 16 then (match zflat x with
      | none => .inl 3
      | some a => if 64 < a.length then .inl 2 else .inr (zR a))
  else if b = 17 then (if zk x ≠ 2 then .inl 3 else if 20 < zmax ((zt x).map List.length) then .inl 2 else .inr (zT (zturn (zt x))))
  else (if zk x ≠ 1 then .inl 3 else if 20 < zmost (zr x) then .inl 2 else if ∃ v ∈ zr x, v < 0 then .inl 1 else .inr (zT (zgroup (zr x))))
def zjoin (x y : Th) : Nat ⊕ Th :=
  if zk x = 3 ∨ zk y = 3 then zmk (zP ((if zk x = 3 then ze x else [x]) ++ (if zk y = 3 then ze y else [y])))
  else if zk x = 2 ∨ zk y = 2 then (if zk x = 0 ∨ zk y = 0 then .inl 3 else zmk (zT ((if zk x = 2 then zt x else [zr x]) ++ (if zk y = 2 then zt y else [zr y]))))
  else zmk (zR ((if zk x = 1 then zr x else [zv x]) ++ (if zk y = 1 then zr y else [zv y])))
noncomputable def zbi2 (b : Nat) (x y : Th) : Nat ⊕ Th :=
  if b = 3 then (if zk x ≠ 0 ∨ zk y ≠ 0 then .inl 3 else if 20 < (zv x).toInt ∨ 64 < (zv y).toInt ∨ (0 ≤ (zv x).toInt ∧ 0 ≤ (zv y).toInt ∧ 200 < (zv x).toInt * (zv y).toInt) then .inl 2 else if zv x < 0 ∨ zv y < 0 then .inl 1 else .inr (zT (List.replicate (zv x).toNatClampNeg (List.replicate (zv y).toNatClampNeg 0))))
  else if b = 19 then zjoin x y
  else if b = 20 then (if zk x ≠ 0 ∨ zk y = 0 then .inl 3 else if (if zk y = 1 then 64 else 20) < zneg (zv x) then .inl 2 else zmk (zof (zk y) (zstr (zdf (zk y)) (ze y) (if zv x < 0 then zn y + (zv x).toInt else 0) (zneg (zv x)).toNat)))
  else if b = 21 then (if zk x ≠ 0 ∨ zk y = 0 then .inl 3 else zmk (zof (zk y) (if zv x < 0 then (ze y).take ((zn y : Int) - zneg (zv x)).toNat else (ze y).drop (zneg (zv x)).toNat)))
  else if b = 22 then (if zk x ≠ 1 ∨ zk y ≠ 1 then .inl 3 else if 20 < (zr y).length then .inl 2 else if ∃ v ∈ zr y, v < 0 then .inl 1 else if zsumI (zr y) ≠ (zr x).length then .inl 4 else .inr (zT (zcut (zr x) (zr y))))
  else if b = 23 then (if zk x = 0 ∨ zk y ≠ 1 then .inl 3 else if zn x ≠ (zr y).length then .inl 4 else zmk (zof (zk x) (zpick (ze x) (zr y))))
  else if b = 24 then (if zk x ≠ 1 ∨ 1 < zk y then .inl 3 else if zk y = 0 then .inr (zI (zfind (zr x) (zv y))) else .inr (zR ((zr y).map (zfind (zr x)))))
  else if b = 25 then (if zk x ≠ 2 ∨ zk y ≠ 0 then .inl 3 else if 64 < (zv y).toInt ∨ 200 < (zn x : Int) * (zv y).toInt then .inl 2 else if zv y < 0 then .inl 1 else .inr (zT ((zt x).map (fun r => (r ++ List.replicate (zv y).toNatClampNeg 0).take (zv y).toNatClampNeg))))
  else if b = 26 then (if zk x ≠ 1 ∨ zk y ≠ 1 then .inl 3 else if 20 < (zr x).length ∨ 200 < (zr x).length * (zr y).length then .inl 2 else .inr (zT ((zr x).map (fun a => (zr y).map (fun b => a * b)))))
  else .inr (zI (@ite _ (x = y) (Classical.propDecidable _) 1 0))
