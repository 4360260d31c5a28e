/-! TREES IN THE MAKING -/
/-- old cells but some stay; kinds and lengths stay -/
def gZ (D : List Nat) (f f' : RH) : Prop := f.1 ≤ f'.1 ∧ f'.2.2.2 = f.2.2.2 ∧ (∀ a, a < f.1 → a ∉ D → f'.2.2.1 a = f.2.2.1 a) ∧ ∀ a, a < f.1 → tg f' a = tg f a ∧ ln f' a = ln f a
/-- what stays of a Reader and of a Definition while a body is read -/
def gX (f f' : RH) (a : Nat) : Prop := (tg f a = some (.inl 11) → vl f' a 148 = vl f a 148 ∧ vl f' a 149 = vl f a 149) ∧ (tg f a = some (.inl 12) → vl f' a 153 = vl f a 153 ∧ vl f' a 155 = vl f a 155 ∧ vl f' a 154 = vl f a 154)
def gE (D : List Nat) (f f' : RH) : Prop := f.1 ≤ f'.1 ∧ f'.2.2.2 = f.2.2.2 ∧ (∀ a, a < f.1 → a ∉ D → f'.2.2.1 a = f.2.2.1 a) ∧ ∀ a, a < f.1 → tg f' a = tg f a ∧ ln f' a = ln f a ∧ gX f f' a
theorem gX.rf (f : RH) (a : Nat) : gX f f a := ⟨fun _ => ⟨rfl, rfl⟩, fun _ => ⟨rfl, rfl, rfl⟩⟩
theorem gX.trans {f f' f'' : RH} {a : Nat} (h : gX f f' a) (e : tg f' a = tg f a) (k : gX f' f'' a) : gX f f'' a :=
  ⟨fun z => ⟨((k.1 (e.trans z)).1).trans (h.1 z).1, ((k.1 (e.trans z)).2).trans (h.1 z).2⟩, fun z => ⟨((k.2 (e.trans z)).1).trans (h.2 z).1, ((k.2 (e.trans z)).2.1).trans (h.2 z).2.1, ((k.2 (e.trans z)).2.2).trans (h.2 z).2.2⟩⟩
theorem gX.cell {f f' : RH} {a : Nat} (h : f'.2.2.1 a = f.2.2.1 a) : gX f f' a := by
  have e : ∀ j, vl f' a j = vl f a j := fun j => by unfold vl; rw [h]
  exact ⟨fun _ => ⟨e _, e _⟩, fun _ => ⟨e _, e _, e _⟩⟩
theorem gE.z {D : List Nat} {f f' : RH} (h : gE D f f') : gZ D f f' := ⟨h.1, h.2.1, h.2.2.1, fun a ha => ⟨(h.2.2.2 a ha).1, (h.2.2.2 a ha).2.1⟩⟩
theorem gZ.rf (D : List Nat) (f : RH) : gZ D f f := ⟨Nat.le_refl _, rfl, fun _ _ _ => rfl, fun _ _ => ⟨rfl, rfl⟩⟩
theorem gZ.ce {D : List Nat} {f f' : RH} (h : gZ D f f') {a : Nat} (ha : a < f.1) (hn : a ∉ D) : f'.2.2.1 a = f.2.2.1 a := h.2.2.1 a ha hn
theorem gZ.trans {D D' : List Nat} {f f' f'' : RH} (h : gZ D f f') (k : gZ D' f' f'') (hD : ∀ a, a ∈ D' → a ∈ D ∨ f.1 ≤ a) : gZ D f f'' :=
  ⟨Nat.le_trans h.1 k.1, k.2.1.trans h.2.1, fun a ha hn => (k.2.2.1 a (Nat.lt_of_lt_of_le ha h.1) (fun z => by rcases hD a z with y | y; exact hn y; omega)).trans (h.2.2.1 a ha hn), fun a ha => ⟨(k.2.2.2 a (Nat.lt_of_lt_of_le ha h.1)).1.trans (h.2.2.2 a ha).1, (k.2.2.2 a (Nat.lt_of_lt_of_le ha h.1)).2.trans (h.2.2.2 a ha).2⟩⟩
theorem gZ.mono {D D' : List Nat} {f f' : RH} (h : gZ D f f') (hD : ∀ a, a ∈ D → a ∈ D' ∨ f.1 ≤ a) : gZ D' f f' := ⟨h.1, h.2.1, fun a ha hn => h.2.2.1 a ha (fun z => by rcases hD a z with y | y; exact hn y; omega), h.2.2.2⟩
theorem gZ.set {f : RH} (a j : Nat) (v : Value) : gZ [a] f (fset f a j v) := ⟨Nat.le_refl _, rfl, fun b _ hn => if_neg (fun e => hn (by rw [e]; exact List.mem_singleton.mpr rfl)), fun b _ => by
  by_cases e : b = a
  · subst e
    cases ht : f.2.2.1 b with
    | none =>
      have e1 : (fset f b j v).2.2.1 b = none := by show (if b = b then (f.2.2.1 b).map _ else _) = none; rw [if_pos rfl, ht]; rfl
      unfold tg ln; rw [e1, ht]; exact ⟨rfl, rfl⟩
    | some x =>
      have ht2 : tg f b = some x.1 := by unfold tg; rw [ht]; rfl
      exact ⟨(fset_tg ht2).1.trans ht2.symm, (fset_tg ht2).2.1⟩
  · exact ⟨(fset_ne e).1, (fset_ne e).2.1⟩⟩
theorem gE.rf (D : List Nat) (f : RH) : gE D f f := ⟨Nat.le_refl _, rfl, fun _ _ _ => rfl, fun _ _ => ⟨rfl, rfl, gX.rf _ _⟩⟩
theorem gE.ce {D : List Nat} {f f' : RH} (h : gE D f f') {a : Nat} (ha : a < f.1) (hn : a ∉ D) : f'.2.2.1 a = f.2.2.1 a := h.2.2.1 a ha hn
theorem gE.trans {D D' : List Nat} {f f' f'' : RH} (h : gE D f f') (k : gE D' f' f'') (hD : ∀ a, a ∈ D' → a ∈ D ∨ f.1 ≤ a) : gE D f f'' :=
  ⟨Nat.le_trans h.1 k.1, k.2.1.trans h.2.1, fun a ha hn => (k.2.2.1 a (Nat.lt_of_lt_of_le ha h.1) (fun z => by rcases hD a z with y | y; exact hn y; omega)).trans (h.2.2.1 a ha hn), fun a ha => ⟨(k.2.2.2 a (Nat.lt_of_lt_of_le ha h.1)).1.trans (h.2.2.2 a ha).1, (k.2.2.2 a (Nat.lt_of_lt_of_le ha h.1)).2.1.trans (h.2.2.2 a ha).2.1, (h.2.2.2 a ha).2.2.trans (h.2.2.2 a ha).1 (k.2.2.2 a (Nat.lt_of_lt_of_le ha h.1)).2.2⟩⟩
theorem gE.mono {D D' : List Nat} {f f' : RH} (h : gE D f f') (hD : ∀ a, a ∈ D → a ∈ D' ∨ f.1 ≤ a) : gE D' f f' := ⟨h.1, h.2.1, fun a ha hn => h.2.2.1 a ha (fun z => by rcases hD a z with y | y; exact hn y; omega), h.2.2.2⟩
theorem gE.set0 {f : RH} (a j : Nat) (v : Value) (hx : gX f (fset f a j v) a) : gE [a] f (fset f a j v) := ⟨(gZ.set a j v).1, (gZ.set a j v).2.1, (gZ.set a j v).2.2.1, fun b hb => ⟨((gZ.set a j v).2.2.2 b hb).1, ((gZ.set a j v).2.2.2 b hb).2, by
  by_cases e : b = a
  · rw [e]; exact hx
  · exact gX.cell (if_neg e)⟩⟩
theorem gE.set {f : RH} (a j : Nat) (v : Value) (hj : j ∉ [148, 149, 153, 154, 155] := by decide) : gE [a] f (fset f a j v) := by
  refine gE.set0 a j v ?_
  simp only [List.mem_cons, List.not_mem_nil, or_false] at hj
  exact ⟨fun z => ⟨((fset_tg z).2.2 148).trans (if_neg (by omega)), ((fset_tg z).2.2 149).trans (if_neg (by omega))⟩, fun z => ⟨((fset_tg z).2.2 153).trans (if_neg (by omega)), ((fset_tg z).2.2 155).trans (if_neg (by omega)), ((fset_tg z).2.2 154).trans (if_neg (by omega))⟩⟩
/-- an array's cell -/
theorem gE.setA {f : RH} {t : Nat} (a j : Nat) (v : Value) (ht : tg f a = some (.inr t)) : gE [a] f (fset f a j v) :=
  gE.set0 a j v ⟨fun z => absurd (ht.symm.trans z) (fun e => by cases e), fun z => absurd (ht.symm.trans z) (fun e => by cases e)⟩
theorem gE.push (f : RH) (x : (Nat ⊕ Nat) × Nat × (Nat → Value)) (n : Nat) : gE [] f (fpush f x n) := by
  have c : ∀ b, b < f.1 → (fpush f x n).2.2.1 b = f.2.2.1 b := fun b hb => if_neg (by omega)
  exact ⟨Nat.le_succ _, rfl, fun b hb _ => c b hb, fun b hb => ⟨by unfold tg; rw [c b hb], by unfold ln; rw [c b hb], gX.cell (c b hb)⟩⟩
theorem gE.new (f : RH) (k : Nat) : gE [] f (fnew f k) := gE.push f _ _
theorem gE.newA (f : RH) (t n : Nat) : gE [] f (fnewA f t n) := gE.push f _ _
theorem cellE {f f' : RH} {a : Nat} (h : f'.2.2.1 a = f.2.2.1 a) : tg f' a = tg f a ∧ ln f' a = ln f a ∧ vl f' a = vl f a := by
  refine ⟨by unfold tg; rw [h], by unfold ln; rw [h], ?_⟩
  funext j; unfold vl; rw [h]
theorem ocE {f f' : RH} {a k : Nat} (h : f'.2.2.1 a = f.2.2.1 a) (q : oc f a k) : oc f' a k := ⟨(cellE h).1.trans q.1, (cellE h).2.1.trans q.2⟩
/-- the final heap agrees (but for the functions of calls, and calls' arrays) -/
def Ag (lo hi : Nat) (f f' : RH) : Prop := ∀ x, lo ≤ x → x < hi → ¬ tg f x = some (.inr 8) → tg f' x = tg f x ∧ ln f' x = ln f x ∧ ∀ j, ¬ (tg f x = some (.inl 19) ∧ j = 178) → vl f' x j = vl f x j
/-- orders agree (but for the functions of calls) -/
def oAg (x y : Od) : Prop := y.1 = x.1 ∧ (¬ x.1 = 9 → y.2.1 = x.2.1) ∧ (¬ x.1 = 11 → y.2.2.1 = x.2.2.1) ∧ y.2.2.2 = x.2.2.2
/-- a call: its object, its order, how many E, its name, where that is -/
abbrev CE : Type := Nat × Nat × Nat × Nat × Nat
def RS (f : RH) (P : Pg) (F : Nat → Nat) (M : Nat) (e : CE) : Prop := ∃ j, j < M ∧ vl f e.1 178 = .ref (F j) ∧ (P.2 j).1 = e.2.2.1 ∧ ((P.1 e.2.1).1 = 9 → (P.1 e.2.1).2.1 = j) ∧ ((P.1 e.2.1).1 = 11 → (P.1 e.2.1).2.2.1 = j)
/-- what will be: a node for orders -/
def Rp (f : RH) (O : Nat → Od) (C : List CE) (lo hi nv a b g h : Nat) (v : Value) : Prop :=
  ∀ (f' : RH) (P : Pg) (F : Nat → Nat) (M nv' : Nat), hi ≤ f'.2.2.2 → Ag lo hi f f' → (∀ i, a ≤ i → i < b → oAg (O i) (P.1 i)) → (∀ e ∈ C, RS f' P F M e) → nv ≤ nv' → RepN f' P F M nv' g v a b h
theorem Rp.keep {f f' : RH} {O O' : Nat → Od} {C C' : List CE} {lo hi nv nv' a b g h : Nat} {v : Value} (q : Rp f O C lo hi nv a b g h v) (h1 : ∀ x, lo ≤ x → x < hi → ¬ tg f x = some (.inr 8) → f'.2.2.1 x = f.2.2.1 x) (h2 : ∀ i, a ≤ i → i < b → O' i = O i) (h3 : ∀ e ∈ C, e ∈ C') (h4 : nv ≤ nv') : Rp f' O' C' lo hi nv' a b g h v := by
  intro f2 P F M nv2 k1 k2 k3 k4 k5
  refine q f2 P F M nv2 k1 (fun x hx1 hx2 hx3 => ?_) (fun i hi1 hi2 => by rw [← h2 i hi1 hi2]; exact k3 i hi1 hi2) (fun e he => k4 e (h3 e he)) (Nat.le_trans h4 k5)
  have e := cellE (h1 x hx1 hx2 hx3)
  have := k2 x hx1 hx2 (by rw [e.1]; exact hx3)
  rw [e.1, e.2.1, e.2.2] at this
  exact this
theorem RepN.mono {f0 : RH} {P : Pg} {F : Nat → Nat} {M nv : Nat} : ∀ {g g' : Nat} {v : Value} {a b h h' : Nat}, RepN f0 P F M nv g v a b h → g ≤ g' → h ≤ h' → RepN f0 P F M nv g' v a b h' := by
  intro g
  induction g with
  | zero => intro g' v a b h h' q; exact absurd q id
  | succ g ih =>
    intro g' v a b h h' q hg hh
    obtain ⟨g'', rfl⟩ : ∃ g'', g' = g'' + 1 := ⟨g' - 1, by omega⟩
    have hg' : g ≤ g'' := by omega
    obtain ⟨p, pl, h1, h2, h3, h4, q⟩ := q
    refine ⟨p, pl, h1, h2, h3, by omega, ?_⟩
    rcases q with q | q | ⟨q0, t, s, x, y, z, q1, q2, q3⟩ | ⟨q0, q, m, V, S, L, c, q1, q2, q3, q4, q5, q6, q7, q8⟩ | ⟨q0, q, m, V, L, c, q1, q2, q4, q5, q6, q7, q8⟩ | ⟨q0, q, m, x, y, V, c, q1, q2, q3, q4, q5, q6⟩ | ⟨q0, q, m, s, y, V, c, q1, q2, q3, q4, q5, q6, q7, q8⟩ | ⟨q0, q, m, j, s, y, V, c, q1, q2, q3, q4, q5, q6, q7, q8, q9, q10⟩
    · exact Or.inl q
    · exact Or.inr (Or.inl q)
    · exact Or.inr (Or.inr (Or.inl ⟨q0, t, s, x, y, z, q1, ih q2 hg' hh, q3⟩))
    · refine Or.inr (Or.inr (Or.inr (Or.inl ⟨q0, q, m, V, S, L, c, q1, q2, q3, q4, q5, ih q6 hg' hh, fun k k1 k2 => ?_, q8⟩)))
      obtain ⟨t, x, hk, y, r1, r2, r3⟩ := q7 k k1 k2
      exact ⟨t, x, hk, y, by omega, ih r2 hg' (Nat.le_refl _), r3⟩
    · refine Or.inr (Or.inr (Or.inr (Or.inr (Or.inl ⟨q0, q, m, V, L, c, q1, q2, q4, q5, ih q6 hg' hh, fun k k1 k2 => ?_, q8⟩))))
      obtain ⟨t, x, z, hk, y, r1, r2, r3⟩ := q7 k k1 k2
      exact ⟨t, x, z, hk, y, by omega, ih r2 hg' (Nat.le_refl _), r3⟩
    · refine Or.inr (Or.inr (Or.inr (Or.inr (Or.inr (Or.inl ⟨q0, q, m, x, y, V, c, q1, q2, by omega, q4, fun k k1 => ?_, q6⟩)))))
      obtain ⟨hk, r1, r2⟩ := q5 k k1
      exact ⟨hk, by omega, ih r2 hg' (Nat.le_refl _)⟩
    · refine Or.inr (Or.inr (Or.inr (Or.inr (Or.inr (Or.inr (Or.inl ⟨q0, q, m, s, y, V, c, q1, q2, q3, q4, by omega, q6, fun k k1 => ?_, q8⟩))))))
      obtain ⟨hk, r1, r2⟩ := q7 k k1
      exact ⟨hk, by omega, ih r2 hg' (Nat.le_refl _)⟩
    · refine Or.inr (Or.inr (Or.inr (Or.inr (Or.inr (Or.inr (Or.inr ⟨q0, q, m, j, s, y, V, c, q1, q2, q3, q4, q5, q6, by omega, q8, fun k k1 => ?_, q10⟩))))))
      obtain ⟨hk, r1, r2⟩ := q9 k k1
      exact ⟨hk, by omega, ih r2 hg' (Nat.le_refl _)⟩
theorem Rp.mono {f : RH} {O : Nat → Od} {C : List CE} {lo hi nv a b g h g' h' : Nat} {v : Value} (q : Rp f O C lo hi nv a b g h v) (hg : g ≤ g') (hh : h ≤ h') : Rp f O C lo hi nv a b g' h' v := fun f' P F M nv' k1 k2 k3 k4 k5 => (q f' P F M nv' k1 k2 k3 k4 k5).mono hg hh
theorem Rp.wide {f : RH} {O : Nat → Od} {C : List CE} {lo hi lo' hi' nv a b g h : Nat} {v : Value} (q : Rp f O C lo hi nv a b g h v) (h1 : lo' ≤ lo) (h2 : hi ≤ hi') : Rp f O C lo' hi' nv a b g h v := fun f' P F M nv' k1 k2 k3 k4 k5 => q f' P F M nv' (by omega) (fun x x1 x2 => k2 x (by omega) (by omega)) k3 k4 k5
/-- a node -/
def nd (f : RH) (x : Nat) : Prop := x < f.1 ∧ ∃ k, tg f x = some (.inl k) ∧ k ∈ CKs 5
/-- Nodes in the making: object, arrays, room, how many, what; children lie elsewhere -/
def NsB (f : RH) (lo q a1 a2 a3 cap m : Nat) (V : Nat → Nat) (S L : Nat → Int32) : Prop :=
  (oc f q 17 ∧ q < f.1 ∧ f.2.2.2 ≤ q ∧ lo ≤ q ∧ vl f q 171 = .int (nI m) ∧ m ≤ cap ∧ 2 ≤ cap ∧ cap ≤ 4 * m + 2) ∧
  (vl f q 168 = .ref a1 ∧ a1 < f.1 ∧ f.2.2.2 ≤ a1 ∧ lo ≤ a1 ∧ tg f a1 = some (.inr 5) ∧ ln f a1 = cap) ∧
  (vl f q 169 = .ref a2 ∧ a2 < f.1 ∧ f.2.2.2 ≤ a2 ∧ lo ≤ a2 ∧ tg f a2 = some (.inr 0) ∧ ln f a2 = cap) ∧
  (vl f q 170 = .ref a3 ∧ a3 < f.1 ∧ f.2.2.2 ≤ a3 ∧ lo ≤ a3 ∧ tg f a3 = some (.inr 0) ∧ ln f a3 = cap) ∧ ¬ a2 = a3 ∧
  ∀ k, k < m → vl f a1 k = .ref (V k) ∧ nd f (V k) ∧ vl f a2 k = .int (S k) ∧ vl f a3 k = .int (L k)
theorem NsB.ne {f : RH} {lo q a1 a2 a3 cap m : Nat} {V : Nat → Nat} {S L : Nat → Int32} (h : NsB f lo q a1 a2 a3 cap m V S L) : ¬ q = a1 ∧ ¬ q = a2 ∧ ¬ q = a3 ∧ ¬ a1 = a2 ∧ ¬ a1 = a3 ∧ ¬ a2 = a3 := by
  obtain ⟨⟨g1, -⟩, ⟨-, -, -, -, g2, -⟩, ⟨-, -, -, -, g3, -⟩, ⟨-, -, -, -, g4, -⟩, g5, -⟩ := h
  have g1 := g1.1
  refine ⟨fun e => ?_, fun e => ?_, fun e => ?_, fun e => ?_, fun e => ?_, g5⟩
  · rw [e, g2] at g1; cases g1
  · rw [e, g3] at g1; cases g1
  · rw [e, g4] at g1; cases g1
  · rw [e, g3] at g2; cases g2
  · rw [e, g4] at g2; cases g2
/-- what doesn't touch them -/
theorem NsB.keep {f f' : RH} {lo q a1 a2 a3 cap m : Nat} {V : Nat → Nat} {S L : Nat → Int32} {D : List Nat} (h : NsB f lo q a1 a2 a3 cap m V S L) (hE : gE D f f') (hD : ∀ a ∈ D, a < f.1 → ¬ a = q ∧ ¬ a = a1 ∧ ¬ a = a2 ∧ ¬ a = a3) : NsB f' lo q a1 a2 a3 cap m V S L := by
  obtain ⟨⟨h1, h2, h3, h4, h5, h6⟩, ⟨i1, i2, i3, i4, i5, i6⟩, ⟨j1, j2, j3, j4, j5, j6⟩, ⟨k1, k2, k3, k4, k5, k6⟩, hne, hk⟩ := h
  have c0 := hE.ce h2 (fun z => (hD q z h2).1 rfl)
  have c1 := hE.ce i2 (fun z => (hD a1 z i2).2.1 rfl)
  have c2 := hE.ce j2 (fun z => (hD a2 z j2).2.2.1 rfl)
  have c3 := hE.ce k2 (fun z => (hD a3 z k2).2.2.2 rfl)
  have l := hE.1
  have cb := hE.2.1
  refine ⟨⟨ocE c0 h1, by omega, by omega, h4, by rw [(cellE c0).2.2]; exact h5, h6⟩, ⟨by rw [(cellE c0).2.2]; exact i1, by omega, by omega, i4, by rw [(cellE c1).1]; exact i5, by rw [(cellE c1).2.1]; exact i6⟩, ⟨by rw [(cellE c0).2.2]; exact j1, by omega, by omega, j4, by rw [(cellE c2).1]; exact j5, by rw [(cellE c2).2.1]; exact j6⟩, ⟨by rw [(cellE c0).2.2]; exact k1, by omega, by omega, k4, by rw [(cellE c3).1]; exact k5, by rw [(cellE c3).2.1]; exact k6⟩, hne, fun k hkm => ?_⟩
  obtain ⟨e1, e2, e3, e4⟩ := hk k hkm
  refine ⟨by rw [(cellE c1).2.2]; exact e1, ⟨by have := e2.1; omega, ?_⟩, by rw [(cellE c2).2.2]; exact e3, by rw [(cellE c3).2.2]; exact e4⟩
  obtain ⟨kk, t1, t2⟩ := e2.2
  exact ⟨kk, by rw [(hE.2.2.2 (V k) e2.1).1]; exact t1, t2⟩
