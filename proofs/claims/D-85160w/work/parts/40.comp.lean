/-! THE COMPONENT'S WORLD: ten objects that are there once, their arrays, and all else -/
abbrev CS : Type := (Nat → Int32) × (Nat → Value) × (Nat → Nat → Int32) × (Nat → Nat → Value)
/-- places: of the ten objects by class, of their arrays by field; cells that stay as they are -/
abbrev CO : Type := (Nat → Nat) × (Nat → Nat) × (Nat → CC)
/-- all else: how many cells, how many slots, the cells, below which place none changes any more -/
abbrev RH : Type := Nat × Nat × (Nat → CC) × Nat
def cArrs : List (Nat × Nat × Nat) := [(0, 2, 1620), (17, 2, 1600), (24, 0, 8400), (25, 4, 8400), (27, 0, 140), (28, 4, 140), (29, 3, 140), (42, 0, 8), (43, 0, 56), (44, 4, 8), (45, 4, 56), (46, 3, 8), (47, 3, 56), (52, 2, 600)]
def cArr (j : Nat) : Option (Nat × Nat) := (cArrs.find? (fun q => q.1 == j)).map (fun q => q.2)
def cRefs : List (Nat × Nat) := [(2, 1), (4, 2), (5, 3), (16, 1), (30, 4), (31, 5), (32, 6), (33, 7), (34, 8), (35, 9), (49, 3), (50, 3), (51, 3)]
def cRef (j : Nat) : Option Nat := (cRefs.find? (fun q => q.1 == j)).map (fun q => q.2)
/-- a field's kind: 0 an int, 1 an object, 2 an array, 3 the program -/
def ckd (j : Nat) : Nat := if (cRef j).isSome then 1 else if (cArr j).isSome then 2 else if j = 6 then 3 else 0
def cF (w : CO) (s : CS) (j : Nat) : Value := if ckd j = 1 then .ref (w.1 ((cRef j).getD 0)) else if ckd j = 2 then .ref (w.2.1 j) else if ckd j = 3 then s.2.1 j else .int (s.1 j)
def cA (s : CS) (j t i : Nat) : Value := if t = 4 then s.2.2.2 j i else .int (s.2.2.1 j i)
def oF (k : Nat) : List Nat := (CF k).filter (fun j => !(decide (8 ≤ j) && decide (j ≤ 13)))
def uI (s : CS) (j : Nat) (v : Int32) : CS := (fun i => if i = j then v else s.1 i, s.2)
def uR (s : CS) (j : Nat) (v : Value) : CS := (s.1, fun i => if i = j then v else s.2.1 i, s.2.2)
def uA (s : CS) (j k : Nat) (v : Int32) : CS := (s.1, s.2.1, fun i n => if i = j ∧ n = k then v else s.2.2.1 i n, s.2.2.2)
def uT (s : CS) (j k : Nat) (v : Value) : CS := (s.1, s.2.1, s.2.2.1, fun i n => if i = j ∧ n = k then v else s.2.2.2 i n)
/-! all else, seen by place -/
def tg (f : RH) (a : Nat) : Option (Nat ⊕ Nat) := (f.2.2.1 a).map (fun x => x.1)
def ln (f : RH) (a : Nat) : Nat := match f.2.2.1 a with
  | some x => x.2.1
  | none => 0
def vl (f : RH) (a j : Nat) : Value := match f.2.2.1 a with
  | some x => x.2.2 j
  | none => .null
/-- what the rows that a table may still make for itself can cost -/
def BM : Nat := 1200000
def isN : Value → Bool
  | .null => true
  | _ => false
def nulls (c : Nat → Value) (n : Nat) : Nat := ((List.range n).filter (fun i => isN (c i))).length
def hvl (h : CH) (a j : Nat) : Value := match h.2.2 a with
  | some x => x.2.2 j
  | none => .null
def hln (h : CH) (a : Nat) : Nat := match h.2.2 a with
  | some x => x.2.1
  | none => 0
def cst (f : RH) (h : CH) (a : Nat) : Nat := if tg f a = some (.inl 30) then (match hvl h a 205 with
  | .ref r => 2 * nulls (hvl h r) (hln h r)
  | _ => match vl f a 204 with
    | .ref ta => 3 * ln f ta + 1
    | _ => 0) else 0
def sumTo (g : Nat → Nat) : Nat → Nat
  | 0 => 0
  | n + 1 => sumTo g n + g n
theorem sumTo_le {g g' : Nat → Nat} : ∀ n, (∀ a, a < n → g' a ≤ g a) → sumTo g' n ≤ sumTo g n
  | 0, _ => Nat.le_refl _
  | n + 1, h => Nat.add_le_add (sumTo_le n fun a ha => h a (Nat.lt_succ_of_lt ha)) (h n (Nat.lt_succ_self n))
theorem sumTo_le1 {g g' : Nat → Nat} {k d : Nat} : ∀ n, (∀ a, a < n → a ≠ k → g' a ≤ g a) → g' k ≤ g k + d → sumTo g' n ≤ sumTo g n + d
  | 0, _, _ => Nat.zero_le _
  | n + 1, h, hk => by
    have h1 := sumTo_le1 (g := g) (g' := g') (k := k) (d := d) n (fun a ha => h a (Nat.lt_succ_of_lt ha)) hk
    show sumTo g' n + g' n ≤ sumTo g n + g n + d
    by_cases e : n = k
    · subst e
      have h2 := sumTo_le (g := g) (g' := g') n (fun a ha => h a (Nat.lt_succ_of_lt ha) (Nat.ne_of_lt ha))
      omega
    · have := h n (Nat.lt_succ_self n) e
      omega
theorem sumTo_add {g : Nat → Nat} : ∀ m n, (∀ a, n ≤ a → a < n + m → g a = 0) → sumTo g (n + m) = sumTo g n
  | 0, _, _ => rfl
  | m + 1, n, h => by
    show sumTo g (n + m) + g (n + m) = _
    rw [sumTo_add m n (fun a h1 h2 => h a h1 (by omega)), h (n + m) (by omega) (by omega)]
    rfl
def ucost (f : RH) (h : CH) : Nat := sumTo (cst f h) f.1
/-- the rows that a table has made for itself -/
def CA (E : EN) (w : CO) (f : RH) (h : CH) (t : Nat) (va vr : Value) : Prop := vr = .null ∨ ∃ (r n : Nat) (cr : Nat → Value) (ta : Nat) (ca : Nat → Value), vr = .ref r ∧ t < f.2.2.2 ∧ ez E ≤ r ∧ f.2.2.1 r = none ∧ w.2.2 r = none ∧ h.2.2 r = some (.inr 9, n, cr) ∧ va = .ref ta ∧ ta < f.2.2.2 ∧ f.2.2.1 ta = some (.inr 11, n, ca) ∧
  ∀ i, i < n → cr i = .null ∨ ∃ (x : Nat) (cx : Nat → Value), cr i = .ref x ∧ x < f.2.2.2 ∧ f.2.2.1 x = some (.inl 29, 0, cx) ∧ cx 203 = ca i
def RC (E : EN) (w : CO) (f : RH) (h : CH) (a : Nat) (x : (Nat ⊕ Nat) × Nat × (Nat → Value)) : Prop :=
  if x.1 = .inl 30 then ∃ c', h.2.2 a = some (.inl 30, x.2.1, c') ∧ c' 204 = x.2.2 204 ∧ (x.2.2 204 = .null ∨ ∃ ta : Nat, x.2.2 204 = .ref ta ∧ tg f ta = some (.inr 11)) ∧ CA E w f h a (x.2.2 204) (c' 205) else h.2.2 a = some x ∧ x.1 ≠ .inr 9
abbrev CW (E : EN) (w : CO) (s : CS) (f : RH) (h : CH) : Prop :=
  (h.1 = f.1) ∧
  (h.1 + ucost f h + BM ≤ eLc E + f.2.1 ∧ h.2.1 + ucost f h + BM ≤ eLs E + f.2.1) ∧
  (ez E ≤ f.2.2.2) ∧
  (f.2.2.2 ≤ f.1) ∧
  (∀ k, k < 10 → ez E ≤ w.1 k ∧ f.2.2.1 (w.1 k) = none ∧ ∃ c, h.2.2 (w.1 k) = some (.inl k, 0, c) ∧ ∀ j ∈ oF k, c j = cF w s j) ∧
  (∀ q ∈ cArrs, ez E ≤ w.2.1 q.1 ∧ f.2.2.1 (w.2.1 q.1) = none ∧ ∃ c, h.2.2 (w.2.1 q.1) = some (.inr q.2.1, q.2.2, c) ∧ ∀ i, i < q.2.2 → c i = cA s q.1 q.2.1 i) ∧
  (∀ p ∈ cArrs, ∀ q ∈ cArrs, w.2.1 p.1 = w.2.1 q.1 → p.1 = q.1) ∧
  (∀ a x, w.2.2 a = some x → h.2.2 a = some x ∧ f.2.2.1 a = none ∧ (∀ k, k < 10 → a ≠ w.1 k) ∧ ∀ q ∈ cArrs, a ≠ w.2.1 q.1) ∧
  (∀ a x, h.2.2 a = some x → a < h.1) ∧
  (∀ a x, f.2.2.1 a = some x → RC E w f h a x) ∧
  (∀ t t' x x' c c' r, f.2.2.1 t = some (.inl 30, x) → f.2.2.1 t' = some (.inl 30, x') → h.2.2 t = some c → h.2.2 t' = some c' → c.2.2 205 = .ref r → c'.2.2 205 = .ref r → t = t')
theorem CW.sz {E : EN} {w : CO} {s : CS} {f : RH} {h : CH} (hW : CW E w s f h) : h.1 = f.1 := hW.1
theorem CW.sl {E : EN} {w : CO} {s : CS} {f : RH} {h : CH} (hW : CW E w s f h) : h.1 + ucost f h + BM ≤ eLc E + f.2.1 ∧ h.2.1 + ucost f h + BM ≤ eLs E + f.2.1 := hW.2.1
theorem CW.cb0 {E : EN} {w : CO} {s : CS} {f : RH} {h : CH} (hW : CW E w s f h) : ez E ≤ f.2.2.2 := hW.2.2.1
theorem CW.cb1 {E : EN} {w : CO} {s : CS} {f : RH} {h : CH} (hW : CW E w s f h) : f.2.2.2 ≤ f.1 := hW.2.2.2.1
theorem CW.ob {E : EN} {w : CO} {s : CS} {f : RH} {h : CH} (hW : CW E w s f h) : ∀ k, k < 10 → ez E ≤ w.1 k ∧ f.2.2.1 (w.1 k) = none ∧ ∃ c, h.2.2 (w.1 k) = some (.inl k, 0, c) ∧ ∀ j ∈ oF k, c j = cF w s j := hW.2.2.2.2.1
theorem CW.ar {E : EN} {w : CO} {s : CS} {f : RH} {h : CH} (hW : CW E w s f h) : ∀ q ∈ cArrs, ez E ≤ w.2.1 q.1 ∧ f.2.2.1 (w.2.1 q.1) = none ∧ ∃ c, h.2.2 (w.2.1 q.1) = some (.inr q.2.1, q.2.2, c) ∧ ∀ i, i < q.2.2 → c i = cA s q.1 q.2.1 i := hW.2.2.2.2.2.1
theorem CW.ad {E : EN} {w : CO} {s : CS} {f : RH} {h : CH} (hW : CW E w s f h) : ∀ p ∈ cArrs, ∀ q ∈ cArrs, w.2.1 p.1 = w.2.1 q.1 → p.1 = q.1 := hW.2.2.2.2.2.2.1
theorem CW.kp {E : EN} {w : CO} {s : CS} {f : RH} {h : CH} (hW : CW E w s f h) : ∀ a x, w.2.2 a = some x → h.2.2 a = some x ∧ f.2.2.1 a = none ∧ (∀ k, k < 10 → a ≠ w.1 k) ∧ ∀ q ∈ cArrs, a ≠ w.2.1 q.1 := hW.2.2.2.2.2.2.2.1
theorem CW.lt {E : EN} {w : CO} {s : CS} {f : RH} {h : CH} (hW : CW E w s f h) : ∀ a x, h.2.2 a = some x → a < h.1 := hW.2.2.2.2.2.2.2.2.1
theorem CW.rs {E : EN} {w : CO} {s : CS} {f : RH} {h : CH} (hW : CW E w s f h) : ∀ a x, f.2.2.1 a = some x → RC E w f h a x := hW.2.2.2.2.2.2.2.2.2.1
theorem CW.c1 {E : EN} {w : CO} {s : CS} {f : RH} {h : CH} (hW : CW E w s f h) : ∀ t t' x x' c c' r, f.2.2.1 t = some (.inl 30, x) → f.2.2.1 t' = some (.inl 30, x') → h.2.2 t = some c → h.2.2 t' = some c' → c.2.2 205 = .ref r → c'.2.2 205 = .ref r → t = t' := hW.2.2.2.2.2.2.2.2.2.2
theorem tg_some {f : RH} {a : Nat} {t : Nat ⊕ Nat} (h : tg f a = some t) : f.2.2.1 a = some (t, ln f a, vl f a) := by
  unfold tg at h
  cases e : f.2.2.1 a with
  | none => rw [e] at h; cases h
  | some x =>
    rw [e] at h
    have h : x.1 = t := by simpa using h
    subst h
    have e1 : ln f a = x.2.1 := by unfold ln; rw [e]
    have e2 : vl f a = x.2.2 := by funext j; unfold vl; rw [e]
    rw [e1, e2]
/-- costs don't rise where tables and their rows stay -/
theorem CW.cstLe {E : EN} {w : CO} {s : CS} {f f' : RH} {h h' : CH} (hW : CW E w s f h) {a : Nat} (p1 : tg f' a = some (.inl 30) → tg f a = some (.inl 30) ∧ vl f' a 204 = vl f a 204 ∧ h'.2.2 a = h.2.2 a) (p2 : ∀ ta, tg f ta = some (.inr 11) → ln f' ta = ln f ta) (p3 : ∀ (r n : Nat) (cr : Nat → Value), h.2.2 r = some (.inr 9, n, cr) → f.2.2.1 r = none → h'.2.2 r = h.2.2 r) : cst f' h' a ≤ cst f h a := by
  unfold cst
  split
  · rename_i e
    obtain ⟨g1, g2, g3⟩ := p1 e
    rw [if_pos g1, g2]
    have e1 : hvl h' a 205 = hvl h a 205 := by unfold hvl; rw [g3]
    rw [e1]
    have hr := hW.rs a _ (tg_some g1)
    unfold RC at hr
    rw [if_pos rfl] at hr
    obtain ⟨c', k1, k2, k3, k4⟩ := hr
    have e2 : hvl h a 205 = c' 205 := by unfold hvl; rw [k1]
    rcases k4 with k4 | ⟨r, n, cr, ta, ca, a1, a2, a3, a4, a5, a6, a7⟩
    · rw [e2, k4]
      rcases k3 with k3 | ⟨ta, k3, k5⟩
      · have k3 : vl f a 204 = .null := k3
        rw [k3]; exact Nat.le_refl _
      · have k3 : vl f a 204 = .ref ta := k3
        rw [k3]
        show 3 * ln f' ta + 1 ≤ 3 * ln f ta + 1
        rw [p2 ta k5]; exact Nat.le_refl _
    · rw [e2, a1]
      show 2 * nulls (hvl h' r) (hln h' r) ≤ 2 * nulls (hvl h r) (hln h r)
      have e3 := p3 r n cr a6 a4
      have e4 : hvl h' r = hvl h r := by funext j; unfold hvl; rw [e3]
      have e5 : hln h' r = hln h r := by unfold hln; rw [e3]
      rw [e4, e5]; exact Nat.le_refl _
  · exact Nat.zero_le _
theorem cArr_mem {j t n : Nat} (h : cArr j = some (t, n)) : (j, t, n) ∈ cArrs := by
  unfold cArr at h
  cases hf : cArrs.find? (fun q => q.1 == j) with
  | none => rw [hf] at h; cases h
  | some q =>
    rw [hf] at h
    have h1 := List.mem_of_find?_eq_some hf
    have h2 := List.find?_some hf
    obtain ⟨a, b, c⟩ := q
    simp only [Option.map_some, Option.some.injEq, Prod.mk.injEq] at h
    obtain ⟨rfl, rfl⟩ := h
    have : a = j := by simpa using h2
    subst this
    exact h1
theorem cArr_uniq : ∀ q ∈ cArrs, cArr q.1 = some q.2 := by decide +kernel
theorem cArr_t9 : ∀ q ∈ cArrs, ¬ q.2.1 = 9 := by decide +kernel
theorem oF_apartB : (List.range 10).all (fun k => (List.range 10).all (fun k' => decide (k = k') || (oF k).all (fun j => !(oF k').contains j))) = true := by decide +kernel
theorem oF_apart : ∀ k, k < 10 → ∀ k', k' < 10 → k ≠ k' → ∀ j ∈ oF k, j ∉ oF k' := by
  intro k hk k' hk' hne j hj hj'
  have h1 := List.all_eq_true.mp (List.all_eq_true.mp oF_apartB k (List.mem_range.mpr hk)) k' (List.mem_range.mpr hk')
  rw [Bool.or_eq_true, decide_eq_true_eq] at h1
  have h2 := List.all_eq_true.mp (h1.resolve_left hne) j hj
  rw [List.contains_iff_mem.mpr hj'] at h2
  cases h2
theorem oF_sub {k j : Nat} (h : j ∈ oF k) : j ∈ CF k := (List.mem_filter.mp h).1
/-- a cell of the ten, or of their arrays, changes -/
theorem CW.upd {E : EN} {w : CO} {s s' : CS} {f : RH} {h : CH} {p : Nat} {y x : (Nat ⊕ Nat) × Nat × (Nat → Value)} (hW : CW E w s f h) (hp : h.2.2 p = some y) (ht : x.1 = y.1) (hf : f.2.2.1 p = none) (hk : w.2.2 p = none) (h9 : ¬ y.1 = .inr 9)
    (ob : ∀ k, k < 10 → ∃ c, (hset h p x).2.2 (w.1 k) = some (.inl k, 0, c) ∧ ∀ j ∈ oF k, c j = cF w s' j)
    (ar : ∀ q ∈ cArrs, ∃ c, (hset h p x).2.2 (w.2.1 q.1) = some (.inr q.2.1, q.2.2, c) ∧ ∀ i, i < q.2.2 → c i = cA s' q.1 q.2.1 i) : CW E w s' f (hset h p x) := by
  have ne : ∀ a, f.2.2.1 a ≠ none → (hset h p x).2.2 a = h.2.2 a := fun a ha => if_neg (fun e => ha (by rw [e]; exact hf))
  have hco : ucost f (hset h p x) ≤ ucost f h := sumTo_le _ fun a _ => hW.cstLe (fun e => ⟨e, rfl, ne a (by rw [tg_some e]; exact fun q => by cases q)⟩) (fun _ _ => rfl) (fun r n cr hr _ => if_neg fun e => by rw [e, hp] at hr; cases hr; exact h9 rfl)
  have hsl := hW.sl
  refine ⟨hW.sz, ⟨Nat.le_trans (by show h.1 + _ + BM ≤ h.1 + _ + BM; omega) hsl.1, Nat.le_trans (by show h.2.1 + _ + BM ≤ h.2.1 + _ + BM; omega) hsl.2⟩, hW.cb0, hW.cb1, fun k hk => ⟨(hW.ob k hk).1, (hW.ob k hk).2.1, ob k hk⟩, fun q hq => ⟨(hW.ar q hq).1, (hW.ar q hq).2.1, ar q hq⟩, hW.ad, fun a z hz => ?_, fun a z hz => ?_, fun a z hz => ?_, fun t t' z z' c c' r e1 e2 e3 e4 => ?_⟩
  · have := hW.kp a z hz
    refine ⟨?_, this.2⟩
    show (if a = p then _ else _) = _
    rw [if_neg (fun e => by rw [e, hk] at hz; cases hz)]
    exact this.1
  · by_cases e : a = p
    · rw [e]; exact hW.lt p y hp
    · refine hW.lt a z ?_
      rw [← hz]; exact (if_neg e).symm
  · have := hW.rs a z hz
    unfold RC at this ⊢
    rw [ne a (by rw [hz]; exact fun q => by cases q)]
    split
    · rename_i e
      rw [if_pos e] at this
      obtain ⟨c', g1, g2, g4, g3⟩ := this
      refine ⟨c', g1, g2, g4, ?_⟩
      rcases g3 with g3 | ⟨r, n, cr, ta, ca, a1, a2, a3, a4, a5, a6, a7⟩
      · exact Or.inl g3
      · refine Or.inr ⟨r, n, cr, ta, ca, a1, a2, a3, a4, a5, ?_, a7⟩
        show (if r = p then _ else _) = _
        rw [if_neg (fun e => ?_)]
        · exact a6
        · rw [e, hp] at a6
          cases a6
          exact h9 rfl
    · rename_i e
      rw [if_neg e] at this
      exact this
  · rw [ne t (by rw [e1]; exact fun q => by cases q)] at e3
    rw [ne t' (by rw [e2]; exact fun q => by cases q)] at e4
    exact hW.c1 t t' z z' c c' r e1 e2 e3 e4
theorem CW.obNe {E : EN} {w : CO} {s : CS} {f : RH} {h : CH} (hW : CW E w s f h) {k k' : Nat} (hk : k < 10) (hk' : k' < 10) (hne : k' ≠ k) : w.1 k' ≠ w.1 k := by
  intro e
  obtain ⟨-, -, c, h1, -⟩ := hW.ob k hk
  obtain ⟨-, -, c', h2, -⟩ := hW.ob k' hk'
  rw [e, h1] at h2
  cases h2
  exact hne rfl
theorem CW.oaNe {E : EN} {w : CO} {s : CS} {f : RH} {h : CH} (hW : CW E w s f h) {k : Nat} (hk : k < 10) {q : Nat × Nat × Nat} (hq : q ∈ cArrs) : w.2.1 q.1 ≠ w.1 k := by
  intro e
  obtain ⟨-, -, c, h1, -⟩ := hW.ob k hk
  obtain ⟨-, -, c', h2, -⟩ := hW.ar q hq
  rw [e, h1] at h2
  cases h2
theorem CW.kNo {E : EN} {w : CO} {s : CS} {f : RH} {h : CH} (hW : CW E w s f h) {k : Nat} (hk : k < 10) : w.2.2 (w.1 k) = none := by
  cases e : w.2.2 (w.1 k) with
  | none => rfl
  | some x => exact absurd rfl ((hW.kp _ x e).2.2.1 k hk)
theorem CW.kNa {E : EN} {w : CO} {s : CS} {f : RH} {h : CH} (hW : CW E w s f h) {q : Nat × Nat × Nat} (hq : q ∈ cArrs) : w.2.2 (w.2.1 q.1) = none := by
  cases e : w.2.2 (w.2.1 q.1) with
  | none => rfl
  | some x => exact absurd rfl ((hW.kp _ x e).2.2.2 q hq)
/-- a field of one of the ten changes -/
theorem CW.put {E : EN} {w : CO} {s s' : CS} {f : RH} {h : CH} (hW : CW E w s f h) {k j : Nat} {v : Value} {c : Nat → Value} (hk : k < 10) (hj : j ∈ oF k) (hc : h.2.2 (w.1 k) = some (.inl k, 0, c)) (hcf : ∀ i ∈ oF k, c i = cF w s i) (h1 : cF w s' j = v) (h2 : ∀ i, i ≠ j → cF w s' i = cF w s i) (h3 : s'.2.2 = s.2.2) : CW E w s' f (hset h (w.1 k) (.inl k, 0, vup c j v)) := by
  refine hW.upd hc rfl (hW.ob k hk).2.1 (hW.kNo hk) (fun e => by cases e) (fun k' hk' => ?_) (fun q hq => ?_)
  · by_cases e : k' = k
    · subst e
      refine ⟨vup c j v, if_pos rfl, fun i hi => ?_⟩
      by_cases hij : i = j
      · subst hij; rw [h1]; exact if_pos rfl
      · rw [h2 i hij, ← hcf i hi]; exact if_neg hij
    · obtain ⟨-, -, c', g1, g2⟩ := hW.ob k' hk'
      refine ⟨c', ?_, fun i hi => ?_⟩
      · show (if w.1 k' = w.1 k then _ else _) = _
        rw [if_neg (hW.obNe hk hk' e)]; exact g1
      · rw [g2 i hi, h2 i (fun z => oF_apart k hk k' hk' (Ne.symm e) j hj (z ▸ hi))]
  · obtain ⟨-, -, c', g1, g2⟩ := hW.ar q hq
    refine ⟨c', ?_, fun i hi => ?_⟩
    · show (if w.2.1 q.1 = w.1 k then _ else _) = _
      rw [if_neg (hW.oaNe hk hq)]; exact g1
    · rw [g2 i hi]; unfold cA; rw [h3]
/-- a cell of an array of one of the ten changes -/
theorem CW.sto {E : EN} {w : CO} {s s' : CS} {f : RH} {h : CH} (hW : CW E w s f h) {j t n k : Nat} {v : Value} {c : Nat → Value} (hj : cArr j = some (t, n)) (hc : h.2.2 (w.2.1 j) = some (.inr t, n, c)) (hcf : ∀ i, i < n → c i = cA s j t i) (h1 : cA s' j t k = v) (h2 : ∀ i, i ≠ k → cA s' j t i = cA s j t i) (h3 : ∀ q ∈ cArrs, q.1 ≠ j → ∀ i, cA s' q.1 q.2.1 i = cA s q.1 q.2.1 i) (h4 : s'.1 = s.1) (h5 : s'.2.1 = s.2.1) : CW E w s' f (hset h (w.2.1 j) (.inr t, n, vup c k v)) := by
  have hm := cArr_mem hj
  refine hW.upd hc rfl (hW.ar _ hm).2.1 (hW.kNa hm) (fun e => cArr_t9 _ hm (by cases e; rfl)) (fun k' hk' => ?_) (fun q hq => ?_)
  · obtain ⟨-, -, c', g1, g2⟩ := hW.ob k' hk'
    refine ⟨c', ?_, fun i hi => ?_⟩
    · show (if w.1 k' = w.2.1 j then _ else _) = _
      rw [if_neg (Ne.symm (hW.oaNe hk' hm))]; exact g1
    · rw [g2 i hi]; unfold cF; rw [h4, h5]
  · by_cases e : q.1 = j
    · have hu := cArr_uniq q hq
      rw [e, hj] at hu
      obtain ⟨a, b, d⟩ := q
      have e : a = j := e
      subst e
      cases hu
      refine ⟨vup c k v, if_pos rfl, fun i hi => ?_⟩
      by_cases hik : i = k
      · subst hik; show _ = cA s' a t i; rw [h1]; exact if_pos rfl
      · show _ = cA s' a t i; rw [h2 i hik, ← hcf i hi]; exact if_neg hik
    · obtain ⟨-, -, c', g1, g2⟩ := hW.ar q hq
      refine ⟨c', ?_, fun i hi => ?_⟩
      · show (if w.2.1 q.1 = w.2.1 j then _ else _) = _
        rw [if_neg (fun z => e (hW.ad q hq _ hm z))]; exact g1
      · rw [g2 i hi, h3 q hq e]
/-! changes of all else -/
def fset (f : RH) (a j : Nat) (v : Value) : RH := (f.1, f.2.1, fun b => if b = a then (f.2.2.1 a).map (fun x => (x.1, x.2.1, vup x.2.2 j v)) else f.2.2.1 b, f.2.2.2)
def fpush (f : RH) (x : (Nat ⊕ Nat) × Nat × (Nat → Value)) (n : Nat) : RH := (f.1 + 1, f.2.1 + (n + 1), fun b => if b = f.1 then some x else f.2.2.1 b, f.2.2.2)
def fnew (f : RH) (k : Nat) : RH := fpush f (.inl k, 0, fun j => defaultValue (FY j)) (CZ k)
def fnewA (f : RH) (t n : Nat) : RH := fpush f (.inr t, n, fun _ => defaultValue (AT t)) n
def fexc (f : RH) : RH := (f.1 + 3, f.2.1 + 225, f.2.2)
theorem RC.no {E : EN} {w : CO} {f : RH} {h : CH} {a : Nat} {x : (Nat ⊕ Nat) × Nat × (Nat → Value)} (hr : RC E w f h a x) (ht : ¬ x.1 = .inl 30) : h.2.2 a = some x := by
  unfold RC at hr
  rw [if_neg ht] at hr
  exact hr.1
theorem RC.some {E : EN} {w : CO} {f : RH} {h : CH} {a : Nat} {x : (Nat ⊕ Nat) × Nat × (Nat → Value)} (hr : RC E w f h a x) : ∃ c, h.2.2 a = some (x.1, x.2.1, c) ∧ ∀ j, x.1 = .inl 30 → j = 204 → c j = x.2.2 j := by
  unfold RC at hr
  split at hr
  · rename_i e
    obtain ⟨c', g1, g2, -, -⟩ := hr
    exact ⟨c', by rw [e]; exact g1, fun j _ hj => by subst hj; exact g2⟩
  · exact ⟨_, hr.1, fun _ _ _ => rfl⟩
/-- the cell of the heap that stands for one of all else -/
theorem CW.cell {E : EN} {w : CO} {s : CS} {f : RH} {h : CH} (hW : CW E w s f h) {a : Nat} {t : Nat ⊕ Nat} (ht : tg f a = some t) : ∃ c, h.2.2 a = some (t, ln f a, c) ∧ (¬ t = .inl 30 → c = vl f a) ∧ (t = .inl 30 → c 204 = vl f a 204) := by
  have := hW.rs a _ (tg_some ht)
  by_cases e : t = .inl 30
  · subst e
    obtain ⟨c, g1, g2⟩ := this.some
    exact ⟨c, g1, fun q => absurd rfl q, fun _ => g2 204 rfl rfl⟩
  · exact ⟨_, this.no e, fun _ => rfl, fun q => absurd q e⟩
/-- a cell of all else, no table, changes -/
theorem CW.fput {E : EN} {w : CO} {s : CS} {f : RH} {h : CH} (hW : CW E w s f h) {a j : Nat} {t : Nat ⊕ Nat} {v : Value} {c : Nat → Value} (ht : tg f a = some t) (hb : f.2.2.2 ≤ a) (hc : h.2.2 a = some (t, ln f a, c)) (h30 : ¬ t = .inl 30) : CW E w s (fset f a j v) (hset h a (t, ln f a, vup c j v)) := by
  have hs := tg_some ht
  have fa : (fset f a j v).2.2.1 a = some (t, ln f a, vup (vl f a) j v) := by
    show (if a = a then _ else _) = _
    rw [if_pos rfl, hs]; rfl
  have fn : ∀ b, b ≠ a → (fset f a j v).2.2.1 b = f.2.2.1 b := fun b hb => if_neg hb
  have hn : ∀ b, b ≠ a → (hset h a (t, ln f a, vup c j v)).2.2 b = h.2.2 b := fun b hb => if_neg hb
  have na : ∀ b, f.2.2.1 b = none → b ≠ a := fun b hb e => by rw [e, hs] at hb; cases hb
  have tgE : ∀ b, tg (fset f a j v) b = tg f b := fun b => by
    by_cases e : b = a
    · subst e; unfold tg; rw [fa, hs]; rfl
    · unfold tg; rw [fn b e]
  have lnE : ∀ b, ln (fset f a j v) b = ln f b := fun b => by
    by_cases e : b = a
    · subst e; unfold ln; rw [fa, hs]
    · unfold ln; rw [fn b e]
  have nt : ∀ b, tg f b = some (.inl 30) → b ≠ a := fun b q e => h30 (by rw [e, ht] at q; cases q; rfl)
  have hca : ∀ b va vr, CA E w f h b va vr → CA E w (fset f a j v) (hset h a (t, ln f a, vup c j v)) b va vr := by
    intro b va vr q
    rcases q with q | ⟨r, n, cr, ta, ca, a1, a2, a3, a4, a5, a6, a7, a8, a9, a10⟩
    · exact Or.inl q
    · refine Or.inr ⟨r, n, cr, ta, ca, a1, a2, a3, by rw [fn r (na r a4)]; exact a4, a5, by rw [hn r (na r a4)]; exact a6, a7, a8, by rw [fn ta (by omega)]; exact a9, fun i hi => ?_⟩
      rcases a10 i hi with q | ⟨x, cx, b1, b2, b3, b4⟩
      · exact Or.inl q
      · exact Or.inr ⟨x, cx, b1, b2, by rw [fn x (by omega)]; exact b3, b4⟩
  have hco : ucost (fset f a j v) (hset h a (t, ln f a, vup c j v)) ≤ ucost f h := sumTo_le _ fun b _ => hW.cstLe (fun e => by
      rw [tgE] at e
      have := nt b e
      exact ⟨e, by unfold vl; rw [fn b this], hn b this⟩) (fun b _ => lnE b) (fun r n cr _ hr => hn r (na r hr))
  have hsl := hW.sl
  refine ⟨hW.sz, ⟨Nat.le_trans (by show h.1 + _ + BM ≤ h.1 + _ + BM; omega) hsl.1, Nat.le_trans (by show h.2.1 + _ + BM ≤ h.2.1 + _ + BM; omega) hsl.2⟩, hW.cb0, hW.cb1, fun k hk => ?_, fun q hq => ?_, hW.ad, fun b z hz => ?_, fun b z hz => ?_, fun b z hz => ?_, fun x x' z z' d d' r e1 e2 e3 e4 => ?_⟩
  · obtain ⟨g1, g2, g3⟩ := hW.ob k hk
    rw [fn _ (na _ g2), hn _ (na _ g2)]
    exact ⟨g1, g2, g3⟩
  · obtain ⟨g1, g2, g3⟩ := hW.ar q hq
    rw [fn _ (na _ g2), hn _ (na _ g2)]
    exact ⟨g1, g2, g3⟩
  · obtain ⟨g1, g2, g3⟩ := hW.kp b z hz
    rw [fn _ (na _ g2), hn _ (na _ g2)]
    exact ⟨g1, g2, g3⟩
  · by_cases e : b = a
    · subst e; exact hW.lt b _ hc
    · rw [hn b e] at hz; exact hW.lt b z hz
  · by_cases e : b = a
    · subst e
      rw [fa] at hz
      cases hz
      have hr := hW.rs b _ hs
      unfold RC at hr ⊢
      rw [if_neg h30] at hr ⊢
      refine ⟨?_, hr.2⟩
      have := hr.1
      rw [hc] at this
      cases this
      exact if_pos rfl
    · rw [fn b e] at hz
      have hr := hW.rs b z hz
      unfold RC at hr ⊢
      rw [hn b e]
      split
      · rename_i e2
        rw [if_pos e2] at hr
        obtain ⟨c', g1, g2, g4, g3⟩ := hr
        refine ⟨c', g1, g2, ?_, hca _ _ _ g3⟩
        rcases g4 with g4 | ⟨ta, g4, g5⟩
        · exact Or.inl g4
        · exact Or.inr ⟨ta, g4, by rw [tgE]; exact g5⟩
      · rename_i e2
        rw [if_neg e2] at hr
        exact hr
  · intro e5 e6
    have n1 := nt x (by rw [← tgE]; unfold tg; rw [e1]; rfl)
    have n2 := nt x' (by rw [← tgE]; unfold tg; rw [e2]; rfl)
    rw [fn x n1] at e1; rw [fn x' n2] at e2; rw [hn x n1] at e3; rw [hn x' n2] at e4
    exact hW.c1 x x' z z' d d' r e1 e2 e3 e4 e5 e6
theorem CW.free {E : EN} {w : CO} {s : CS} {f : RH} {h : CH} (hW : CW E w s f h) {b : Nat} (hb : h.1 ≤ b) : f.2.2.1 b = none ∧ h.2.2 b = none ∧ w.2.2 b = none := by
  have h2 : h.2.2 b = none := by
    cases e : h.2.2 b with
    | none => rfl
    | some x => have := hW.lt b x e; omega
  refine ⟨?_, h2, ?_⟩
  · cases e : f.2.2.1 b with
    | none => rfl
    | some x => obtain ⟨c, g, -⟩ := (hW.rs b x e).some; rw [h2] at g; cases g
  · cases e : w.2.2 b with
    | none => rfl
    | some x => have := (hW.kp b x e).1; rw [h2] at this; cases this
/-- the heap grows by cells that none of the old ones knows; x is the one that is seen -/
theorem CW.grow {E : EN} {w : CO} {s : CS} {f f' : RH} {h h' : CH} (hW : CW E w s f h) (z1 : h'.1 = f'.1) (z2 : h.1 + (f'.2.1 - f.2.1) ≥ h'.1 ∧ h'.2.1 ≤ h.2.1 + (f'.2.1 - f.2.1) ∧ f.2.1 ≤ f'.2.1) (z3 : h.1 ≤ h'.1) (cb : f'.2.2.2 = f.2.2.2) (ho : ∀ b, b < h.1 → h'.2.2 b = h.2.2 b) (fo : ∀ b, b < h.1 → f'.2.2.1 b = f.2.2.1 b) (hl : ∀ b x, h'.2.2 b = some x → b < h'.1)
    (hx : ∀ b x, h.1 ≤ b → f'.2.2.1 b = some x → h'.2.2 b = some x ∧ ¬ x.1 = .inr 9 ∧ (x.1 = .inl 30 → x.2.2 205 = .null ∧ x.2.2 204 = .null)) : CW E w s f' h' := by
  have lo : ∀ b x, h.2.2 b = some x → h'.2.2 b = some x := fun b x e => by rw [ho b (hW.lt b x e)]; exact e
  have lf : ∀ b x, f.2.2.1 b = some x → f'.2.2.1 b = some x := fun b x e => by
    rw [fo b ?_]
    · exact e
    · obtain ⟨c, g, -⟩ := (hW.rs b x e).some
      exact hW.lt _ _ g
  have bk : ∀ b x, b < h.1 → f'.2.2.1 b = some x → f.2.2.1 b = some x := fun b x hb e => by rw [← fo b hb]; exact e
  have hcb : f.2.2.2 ≤ h.1 := by rw [hW.sz]; exact hW.cb1
  have hca : ∀ b va vr, CA E w f h b va vr → CA E w f' h' b va vr := by
    intro b va vr q
    rcases q with q | ⟨r, n, cr, ta, ca, a1, a2, a3, a4, a5, a6, a7, a8, a9, a10⟩
    · exact Or.inl q
    · refine Or.inr ⟨r, n, cr, ta, ca, a1, by omega, a3, by rw [fo r (hW.lt _ _ a6)]; exact a4, a5, lo _ _ a6, a7, by omega, lf _ _ a9, fun i hi => ?_⟩
      rcases a10 i hi with q | ⟨x, cx, b1, b2, b3, b4⟩
      · exact Or.inl q
      · exact Or.inr ⟨x, cx, b1, by omega, lf _ _ b3, b4⟩
  have hf1 : h.1 = f.1 := hW.sz
  have tgE : ∀ b, b < h.1 → tg f' b = tg f b := fun b hb => by unfold tg; rw [fo b hb]
  have lnE : ∀ b, b < h.1 → ln f' b = ln f b := fun b hb => by unfold ln; rw [fo b hb]
  have ltf : ∀ b t, tg f b = some t → b < h.1 := fun b t q => by
    obtain ⟨c, g, -⟩ := (hW.rs b _ (tg_some q)).some
    exact hW.lt _ _ g
  have hco : ucost f' h' ≤ ucost f h := by
    unfold ucost
    rw [show f'.1 = f.1 + (f'.1 - f.1) by omega, sumTo_add (f'.1 - f.1) f.1 (fun a h1 h2 => ?_)]
    · exact sumTo_le _ fun b hb => hW.cstLe (fun e => by
        have hb : b < h.1 := by omega
        rw [tgE b hb] at e
        exact ⟨e, by unfold vl; rw [fo b hb], ho b hb⟩) (fun ta q => lnE ta (ltf _ _ q)) (fun r n cr q _ => ho r (hW.lt _ _ q))
    · unfold cst
      split
      · rename_i e
        obtain ⟨g1, -, g3⟩ := hx a _ (by omega) (tg_some e)
        obtain ⟨g4, g5⟩ := g3 rfl
        have e1 : hvl h' a 205 = .null := by unfold hvl; rw [g1]; exact g4
        have g5 : vl f' a 204 = .null := g5
        rw [e1, g5]
      · rfl
  have hsl := hW.sl
  refine ⟨z1, ⟨by omega, by omega⟩, by rw [cb]; exact hW.cb0, by rw [cb, ← z1]; omega, fun k hk => ?_, fun q hq => ?_, hW.ad, fun b z hz => ?_, hl, fun b z hz => ?_, fun x x' z z' d d' r e1 e2 e3 e4 => ?_⟩
  · obtain ⟨g1, g2, c, g3, g4⟩ := hW.ob k hk
    exact ⟨g1, by rw [fo _ (hW.lt _ _ g3)]; exact g2, c, lo _ _ g3, g4⟩
  · obtain ⟨g1, g2, c, g3, g4⟩ := hW.ar q hq
    exact ⟨g1, by rw [fo _ (hW.lt _ _ g3)]; exact g2, c, lo _ _ g3, g4⟩
  · obtain ⟨g1, g2, g3⟩ := hW.kp b z hz
    exact ⟨lo _ _ g1, by rw [fo _ (hW.lt _ _ g1)]; exact g2, g3⟩
  · by_cases e : b < h.1
    · have hr := hW.rs b z (bk b z e hz)
      unfold RC at hr ⊢
      split
      · rename_i e2
        rw [if_pos e2] at hr
        obtain ⟨c', g1, g2, g4, g3⟩ := hr
        refine ⟨c', lo _ _ g1, g2, ?_, hca _ _ _ g3⟩
        rcases g4 with g4 | ⟨ta, g4, g5⟩
        · exact Or.inl g4
        · exact Or.inr ⟨ta, g4, by rw [tgE ta (ltf _ _ g5)]; exact g5⟩
      · rename_i e2
        rw [if_neg e2] at hr
        exact ⟨lo _ _ hr.1, hr.2⟩
    · obtain ⟨g1, g2, g3⟩ := hx b z (by omega) hz
      unfold RC
      split
      · rename_i e2
        refine ⟨z.2.2, by rw [g1, ← e2], rfl, Or.inl (g3 e2).2, Or.inl (g3 e2).1⟩
      · exact ⟨g1, g2⟩
  · intro e5 e6
    have key : ∀ y u d, f'.2.2.1 y = some (.inl 30, u) → h'.2.2 y = some d → d.2.2 205 = .ref r → y < h.1 := by
      intro y u d k1 k2 k3
      apply Classical.byContradiction
      intro e
      obtain ⟨g1, g2, g3⟩ := hx y _ (by omega) k1
      rw [k2] at g1
      cases g1
      have := (g3 rfl).1
      rw [k3] at this
      cases this
    have n1 := key x z d e1 e3 e5
    have n2 := key x' z' d' e2 e4 e6
    rw [fo x n1] at e1; rw [fo x' n2] at e2; rw [ho x n1] at e3; rw [ho x' n2] at e4
    exact hW.c1 x x' z z' d d' r e1 e2 e3 e4 e5 e6
theorem CW.push {E : EN} {w : CO} {s : CS} {f : RH} {h : CH} (hW : CW E w s f h) (x : (Nat ⊕ Nat) × Nat × (Nat → Value)) (n : Nat) (h9 : ¬ x.1 = .inr 9) (h30 : x.1 = .inl 30 → x.2.2 205 = .null ∧ x.2.2 204 = .null) : CW E w s (fpush f x n) (hpush h x n) := by
  have hz := hW.sz
  refine hW.grow (by show h.1 + 1 = f.1 + 1; omega) (by show h.1 + (f.2.1 + (n + 1) - f.2.1) ≥ h.1 + 1 ∧ h.2.1 + n ≤ h.2.1 + (f.2.1 + (n + 1) - f.2.1) ∧ f.2.1 ≤ f.2.1 + (n + 1); omega) (Nat.le_succ _) rfl (fun b hb => if_neg (by omega)) (fun b hb => if_neg (by omega)) (fun b y hb => ?_) (fun b y hb hy => ?_)
  · have hb : (if b = h.1 then some x else h.2.2 b) = some y := hb
    show b < h.1 + 1
    split at hb
    · omega
    · have := hW.lt b y hb; omega
  · have hy : (if b = f.1 then some x else f.2.2.1 b) = some y := hy
    split at hy
    · rename_i e
      cases hy
      exact ⟨if_pos (by omega), h9, h30⟩
    · rw [(hW.free hb).1] at hy; cases hy
theorem CW.exc {E : EN} {w : CO} {s : CS} {f : RH} {h : CH} (hW : CW E w s f h) (k : Nat) : CW E w s (fexc f) (hexc h k) := by
  have hz := hW.sz
  refine hW.grow (by show h.1 + 3 = f.1 + 3; omega) (by show h.1 + (f.2.1 + 225 - f.2.1) ≥ h.1 + 3 ∧ h.2.1 + 222 ≤ h.2.1 + (f.2.1 + 225 - f.2.1) ∧ f.2.1 ≤ f.2.1 + 225; omega) (Nat.le_add_right _ _) rfl (fun b hb => if_neg (by omega)) (fun b hb => rfl) (fun b y hb => ?_) (fun b y hb hy => ?_)
  · have hb : (if b = h.1 + 2 then _ else h.2.2 b) = some y := hb
    show b < h.1 + 3
    split at hb
    · omega
    · have := hW.lt b y hb; omega
  · rw [show (fexc f).2.2.1 = f.2.2.1 from rfl, (hW.free hb).1] at hy; cases hy
/-- from now on nothing of what there is changes -/
def frz (f : RH) : RH := (f.1, f.2.1, f.2.2.1, f.1)
theorem CW.freeze {E : EN} {w : CO} {s : CS} {f : RH} {h : CH} (hW : CW E w s f h) : CW E w s (frz f) h := by
  have hb := hW.cb1
  have hca : ∀ b va vr, CA E w f h b va vr → CA E w (frz f) h b va vr := by
    intro b va vr q
    rcases q with q | ⟨r, n, cr, ta, ca, a1, a2, a3, a4, a5, a6, a7, a8, a9, a10⟩
    · exact Or.inl q
    · refine Or.inr ⟨r, n, cr, ta, ca, a1, Nat.lt_of_lt_of_le a2 hb, a3, a4, a5, a6, a7, Nat.lt_of_lt_of_le a8 hb, a9, fun i hi => ?_⟩
      rcases a10 i hi with q | ⟨x, cx, b1, b2, b3, b4⟩
      · exact Or.inl q
      · exact Or.inr ⟨x, cx, b1, Nat.lt_of_lt_of_le b2 hb, b3, b4⟩
  refine ⟨hW.sz, (by have := hW.sl; exact this), Nat.le_trans hW.cb0 hb, Nat.le_refl _, hW.ob, hW.ar, hW.ad, hW.kp, hW.lt, fun b z hz => ?_, hW.c1⟩
  have hr := hW.rs b z hz
  unfold RC at hr ⊢
  split
  · rename_i e2
    rw [if_pos e2] at hr
    obtain ⟨c', g1, g2, g4, g3⟩ := hr
    exact ⟨c', g1, g2, g4, hca _ _ _ g3⟩
  · rename_i e2
    rw [if_neg e2] at hr
    exact hr
def fchg (f : RH) (n : Nat) : RH := (f.1, f.2.1 + n, f.2.2)
/-- a table gets its rows -/
theorem CW.fputT {E : EN} {w : CO} {s : CS} {f : RH} {h : CH} (hW : CW E w s f h) {a ta : Nat} {c : Nat → Value} (ht : tg f a = some (.inl 30)) (hb : f.2.2.2 ≤ a) (hta : tg f ta = some (.inr 11)) (hc : h.2.2 a = some (.inl 30, ln f a, c)) : CW E w s (fchg (fset f a 204 (.ref ta)) (3 * ln f ta + 1)) (hset h a (.inl 30, ln f a, vup c 204 (.ref ta))) := by
  generalize eN : 3 * ln f ta + 1 = N
  have hs := tg_some ht
  have fa : (fchg (fset f a 204 (.ref ta)) N).2.2.1 a = some (.inl 30, ln f a, vup (vl f a) 204 (.ref ta)) := by
    show (if a = a then _ else _) = _
    rw [if_pos rfl, hs]; rfl
  have fn : ∀ b, b ≠ a → (fchg (fset f a 204 (.ref ta)) N).2.2.1 b = f.2.2.1 b := fun b hb => if_neg hb
  have hn : ∀ b, b ≠ a → (hset h a (.inl 30, ln f a, vup c 204 (.ref ta))).2.2 b = h.2.2 b := fun b hb => if_neg hb
  have na : ∀ b, f.2.2.1 b = none → b ≠ a := fun b hb e => by rw [e, hs] at hb; cases hb
  have tgE : ∀ b, tg (fchg (fset f a 204 (.ref ta)) N) b = tg f b := fun b => by
    by_cases e : b = a
    · subst e; unfold tg; rw [fa, hs]; rfl
    · unfold tg; rw [fn b e]
  have lnE : ∀ b, ln (fchg (fset f a 204 (.ref ta)) N) b = ln f b := fun b => by
    by_cases e : b = a
    · subst e; unfold ln; rw [fa, hs]
    · unfold ln; rw [fn b e]
  have hr := hW.rs a _ hs
  unfold RC at hr
  rw [if_pos rfl] at hr
  obtain ⟨c', k1, k2, k3, k4⟩ := hr
  rw [hc] at k1
  cases k1
  have c205 : c 205 = .null := by
    rcases k4 with k4 | ⟨r, n, cr, ta, ca, a1, a2, a3⟩
    · exact k4
    · omega
  have hca : ∀ b va vr, CA E w f h b va vr → CA E w (fchg (fset f a 204 (.ref ta)) N) (hset h a (.inl 30, ln f a, vup c 204 (.ref ta))) b va vr := by
    intro b va vr q
    rcases q with q | ⟨r, n, cr, ta', ca, a1, a2, a3, a4, a5, a6, a7, a8, a9, a10⟩
    · exact Or.inl q
    · refine Or.inr ⟨r, n, cr, ta', ca, a1, a2, a3, by rw [fn r (na r a4)]; exact a4, a5, by rw [hn r (na r a4)]; exact a6, a7, a8, by rw [fn ta' (by omega)]; exact a9, fun i hi => ?_⟩
      rcases a10 i hi with q | ⟨x, cx, b1, b2, b3, b4⟩
      · exact Or.inl q
      · exact Or.inr ⟨x, cx, b1, b2, by rw [fn x (by omega)]; exact b3, b4⟩
  have hco : ucost (fchg (fset f a 204 (.ref ta)) N) (hset h a (.inl 30, ln f a, vup c 204 (.ref ta))) ≤ ucost f h + N := by
    refine sumTo_le1 (k := a) _ (fun b _ hba => hW.cstLe (fun e => by
      rw [tgE] at e
      exact ⟨e, by unfold vl; rw [fn b hba], hn b hba⟩) (fun b _ => lnE b) (fun r n cr _ hr => hn r (na r hr))) ?_
    unfold cst
    rw [tgE, if_pos ht]
    have e1 : hvl (hset h a (.inl 30, ln f a, vup c 204 (.ref ta))) a 205 = .null := by
      unfold hvl
      rw [show (hset h a (.inl 30, ln f a, vup c 204 (.ref ta))).2.2 a = some (.inl 30, ln f a, vup c 204 (.ref ta)) from if_pos rfl]
      exact c205
    have e2 : vl (fchg (fset f a 204 (.ref ta)) N) a 204 = .ref ta := by unfold vl; rw [fa]; rfl
    rw [e1, e2]
    show 3 * ln (fchg (fset f a 204 (.ref ta)) N) ta + 1 ≤ _
    rw [lnE, eN]
    exact Nat.le_add_left _ _
  have hsl := hW.sl
  refine ⟨hW.sz, ⟨by show h.1 + _ + BM ≤ eLc E + (f.2.1 + N); omega, by show h.2.1 + _ + BM ≤ eLs E + (f.2.1 + N); omega⟩, hW.cb0, hW.cb1, fun k hk => ?_, fun q hq => ?_, hW.ad, fun b z hz => ?_, fun b z hz => ?_, fun b z hz => ?_, fun x x' z z' d d' r e1 e2 e3 e4 => ?_⟩
  · obtain ⟨g1, g2, g3⟩ := hW.ob k hk
    rw [fn _ (na _ g2), hn _ (na _ g2)]
    exact ⟨g1, g2, g3⟩
  · obtain ⟨g1, g2, g3⟩ := hW.ar q hq
    rw [fn _ (na _ g2), hn _ (na _ g2)]
    exact ⟨g1, g2, g3⟩
  · obtain ⟨g1, g2, g3⟩ := hW.kp b z hz
    rw [fn _ (na _ g2), hn _ (na _ g2)]
    exact ⟨g1, g2, g3⟩
  · by_cases e : b = a
    · subst e; exact hW.lt b _ hc
    · rw [hn b e] at hz; exact hW.lt b z hz
  · by_cases e : b = a
    · subst e
      rw [fa] at hz
      cases hz
      unfold RC
      rw [if_pos rfl]
      exact ⟨vup c 204 (.ref ta), if_pos rfl, rfl, Or.inr ⟨ta, rfl, by rw [tgE]; exact hta⟩, Or.inl c205⟩
    · rw [fn b e] at hz
      have hr := hW.rs b z hz
      unfold RC at hr ⊢
      rw [hn b e]
      split
      · rename_i e2
        rw [if_pos e2] at hr
        obtain ⟨c', g1, g2, g4, g3⟩ := hr
        refine ⟨c', g1, g2, ?_, hca _ _ _ g3⟩
        rcases g4 with g4 | ⟨ta, g4, g5⟩
        · exact Or.inl g4
        · exact Or.inr ⟨ta, g4, by rw [tgE]; exact g5⟩
      · rename_i e2
        rw [if_neg e2] at hr
        exact hr
  · intro e5 e6
    have key : ∀ y d, (hset h a (.inl 30, ln f a, vup c 204 (.ref ta))).2.2 y = some d → d.2.2 205 = .ref r → y ≠ a := by
      intro y d k2 k3 e
      subst e
      have k2 : some ((Sum.inl 30 : Nat ⊕ Nat), ln f y, vup c 204 (.ref ta)) = some d := (if_pos rfl).symm.trans k2
      cases k2
      have k3 : c 205 = .ref r := k3
      rw [c205] at k3
      cases k3
    have n1 := key x d e3 e5
    have n2 := key x' d' e4 e6
    rw [fn x n1] at e1; rw [fn x' n2] at e2; rw [hn x n1] at e3; rw [hn x' n2] at e4
    exact hW.c1 x x' z z' d d' r e1 e2 e3 e4 e5 e6
/-- room for so many cells and slots -/
def rmF (E : EN) (f : RH) (c n : Nat) : Prop := f.2.1 + c + n ≤ BM
theorem CW.room {E : EN} {w : CO} {s : CS} {f : RH} {h : CH} (hW : CW E w s f h) {c n : Nat} (hr : rmF E f c n) : h.1 + c ≤ eLc E ∧ h.2.1 + n ≤ eLs E := by
  have := hW.sl
  unfold rmF at hr
  omega
