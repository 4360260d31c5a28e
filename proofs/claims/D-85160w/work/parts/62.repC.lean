/-! THINGS IN THE COMPONENT'S CELLS: c the cells, b a place below which all of it lies -/
def rcI (c : Nat → CC) (z b : Nat) (v : Value) (a : List Int32) : Prop := ∃ (p : Nat) (g : Nat → Value), v = .ref p ∧ (z ≤ p ∧ p < b) ∧ c p = some (.inr 0, a.length, g) ∧ ∀ i, i < a.length → g i = .int (a.getD i 0)
def rcT (c : Nat → CC) (z b : Nat) : Bool → Th → (Nat → Value) → Prop
  | true, .leaf (.inl v), g => ∃ (p : Nat) (k : Nat → Value), g 0 = .ref p ∧ p < b ∧ c p = some (.inl 32, 0, k) ∧ k 209 = .int v
  | true, .leaf (.inr (.inl a)), g => ∃ (p : Nat) (k : Nat → Value), g 0 = .ref p ∧ p < b ∧ c p = some (.inl 29, 0, k) ∧ rcI c z b (k 203) a
  | true, .leaf (.inr (.inr a)), g => ∃ (p : Nat) (k : Nat → Value) (q : Nat) (m : Nat → Value), g 0 = .ref p ∧ (z ≤ p ∧ p < b) ∧ c p = some (.inl 30, 0, k) ∧ k 204 = .ref q ∧ q < b ∧ c q = some (.inr 11, a.length, m) ∧ ∀ i, i < a.length → rcI c z b (m i) (a.getD i [])
  | true, .branch _ s _, g => ∃ (p : Nat) (k : Nat → Value) (q : Nat) (m : Nat → Value), g 0 = .ref p ∧ p < b ∧ c p = some (.inl 31, 0, k) ∧ k 206 = .ref q ∧ q < b ∧ c q = some (.inr 4, (zl s).length, m) ∧ k 207 = .int (nI (zd s + 1)) ∧ k 208 = .int (nI (zb s)) ∧ rcT c z b false s m
  | false, .leaf _, _ => True
  | false, .branch _ x r, g => rcT c z b true x (fun _ => g 0) ∧ rcT c z b false r (fun i => g (i + 1))
theorem rcI_mono {c c' : Nat → CC} {z b b' : Nat} (hb : b ≤ b') (hc : ∀ a, a < b → c' a = c a) {v : Value} {a : List Int32} (h : rcI c z b v a) : rcI c' z b' v a := by
  obtain ⟨p, g, h1, h2, h3, h4⟩ := h
  exact ⟨p, g, h1, ⟨h2.1, Nat.lt_of_lt_of_le h2.2 hb⟩, by rw [hc p h2.2]; exact h3, h4⟩
theorem rcT_mono {c c' : Nat → CC} {z b b' : Nat} (hb : b ≤ b') (hc : ∀ a, a < b → c' a = c a) : ∀ (t : Th) (x : Bool) (g : Nat → Value), rcT c z b x t g → rcT c' z b' x t g := by
  intro t
  induction t with
  | leaf y =>
    intro x g h
    match x, y, h with
    | true, .inl v, h =>
      obtain ⟨p, k, h1, h2, h3, h4⟩ := h
      exact ⟨p, k, h1, Nat.lt_of_lt_of_le h2 hb, by rw [hc p h2]; exact h3, h4⟩
    | true, .inr (.inl a), h =>
      obtain ⟨p, k, h1, h2, h3, h4⟩ := h
      exact ⟨p, k, h1, Nat.lt_of_lt_of_le h2 hb, by rw [hc p h2]; exact h3, rcI_mono hb hc h4⟩
    | true, .inr (.inr a), h =>
      obtain ⟨p, k, q, m, h1, h2, h3, h4, h5, h6, h7⟩ := h
      exact ⟨p, k, q, m, h1, ⟨h2.1, Nat.lt_of_lt_of_le h2.2 hb⟩, by rw [hc p h2.2]; exact h3, h4, Nat.lt_of_lt_of_le h5 hb, by rw [hc q h5]; exact h6, fun i hi => rcI_mono hb hc (h7 i hi)⟩
    | false, _, _ => exact trivial
  | branch k s e i1 i2 =>
    intro x g h
    match x, h with
    | true, h =>
      obtain ⟨p, k, q, m, h1, h2, h3, h4, h5, h6, h7, h8, h9⟩ := h
      exact ⟨p, k, q, m, h1, Nat.lt_of_lt_of_le h2 hb, by rw [hc p h2]; exact h3, h4, Nat.lt_of_lt_of_le h5 hb, by rw [hc q h5]; exact h6, h7, h8, i1 false m h9⟩
    | false, h => exact ⟨i1 true _ h.1, i2 false _ h.2⟩
/-- a thing's own cell -/
abbrev RT (E : EN) (f : RH) (v : Value) (t : Th) : Prop := rcT f.2.2.1 (ez E) f.2.2.2 true t (fun _ => v)
/-- the same with all cells there are in place of those that never change -/
abbrev RT1 (E : EN) (f : RH) (v : Value) (t : Th) : Prop := rcT f.2.2.1 (ez E) f.1 true t (fun _ => v)
abbrev RI (E : EN) (f : RH) (v : Value) (a : List Int32) : Prop := rcI f.2.2.1 (ez E) f.2.2.2 v a
abbrev RI1 (E : EN) (f : RH) (v : Value) (a : List Int32) : Prop := rcI f.2.2.1 (ez E) f.1 v a
theorem rcT_at {c : Nat → CC} {z b : Nat} : ∀ (s : Th) (g : Nat → Value), rcT c z b false s g ↔ ∀ i, i < (zl s).length → rcT c z b true ((zl s).getD i (zI 0)) (fun _ => g i) := by
  intro s
  induction s with
  | leaf y => exact fun g => ⟨fun _ i hi => absurd hi (Nat.not_lt_zero i), fun _ => trivial⟩
  | branch k x r i1 i2 =>
    intro g
    constructor
    · intro h i hi
      cases i with
      | zero => exact h.1
      | succ i => exact (i2 _).mp h.2 i (Nat.lt_of_succ_lt_succ hi)
    · intro h
      exact ⟨h 0 (Nat.succ_pos _), (i2 _).mpr fun i hi => h (i + 1) (Nat.succ_lt_succ hi)⟩
/-- a pack by its list -/
theorem rcT_pack {c : Nat → CC} {z b : Nat} {l : List Th} {v : Value} : rcT c z b true (zP l) (fun _ => v) ↔ ∃ (p : Nat) (k : Nat → Value) (q : Nat) (m : Nat → Value), v = .ref p ∧ p < b ∧ c p = some (.inl 31, 0, k) ∧ k 206 = .ref q ∧ q < b ∧ c q = some (.inr 4, l.length, m) ∧ k 207 = .int (nI (zd (zP l))) ∧ k 208 = .int (nI (zb (zP l))) ∧ ∀ i, i < l.length → rcT c z b true (l.getD i (zI 0)) (fun _ => m i) := by
  have e1 : zd (zP l) = zd (zsp l) + 1 := zd_zP l
  have e2 : zb (zP l) = zb (zsp l) := by rw [zb_zP, zb_zsp]
  constructor
  · rintro ⟨p, k, q, m, h1, h2, h3, h4, h5, h6, h7, h8, h9⟩
    rw [zl_zsp] at h6
    refine ⟨p, k, q, m, h1, h2, h3, h4, h5, h6, by rw [e1]; exact h7, by rw [e2]; exact h8, fun i hi => ?_⟩
    have := (rcT_at _ _).mp h9
    rw [zl_zsp] at this
    exact this i hi
  · rintro ⟨p, k, q, m, h1, h2, h3, h4, h5, h6, h7, h8, h9⟩
    refine ⟨p, k, q, m, h1, h2, h3, h4, h5, by rw [zl_zsp]; exact h6, by rw [← e1]; exact h7, by rw [← e2]; exact h8, (rcT_at _ _).mpr ?_⟩
    rw [zl_zsp]
    exact h9
theorem RT.frz {E : EN} {f0 f : RH} (h : Frz f0 f) {v : Value} {t : Th} (k : RT E f0 v t) : RT E f v t := rcT_mono h.2.2.1 h.2.2.2 t true _ k
theorem RI.frz {E : EN} {f0 f : RH} (h : Frz f0 f) {v : Value} {a : List Int32} (k : RI E f0 v a) : RI E f v a := rcI_mono h.2.2.1 h.2.2.2 k
/-- a value on the pile: its INT, its thing -/
def rcV (E : EN) (f : RH) (n : Int32) (v : Value) : Th → Prop
  | .leaf (.inl x) => v = .null ∧ n = x
  | t => RT E f v t
theorem rcV.frz {E : EN} {f0 f : RH} (h : Frz f0 f) {n : Int32} {v : Value} {t : Th} (k : rcV E f0 n v t) : rcV E f n v t := by
  match t, k with
  | .leaf (.inl x), k => exact k
  | .leaf (.inr (.inl a)), k => exact RT.frz h k
  | .leaf (.inr (.inr a)), k => exact RT.frz h k
  | .branch _ _ _, k => exact RT.frz h k
theorem rcV_thing {E : EN} {f : RH} {n : Int32} {v : Value} {t : Th} (hk : zk t ≠ 0) : rcV E f n v t ↔ RT E f v t := by
  match t, hk with
  | .leaf (.inl x), hk => exact absurd rfl hk
  | .leaf (.inr (.inl a)), _ => exact Iff.rfl
  | .leaf (.inr (.inr a)), _ => exact Iff.rfl
  | .branch _ _ _, _ => exact Iff.rfl
/-- the class of a thing -/
theorem RT_cls {c : Nat → CC} {z b : Nat} {v : Value} {t : Th} (h : rcT c z b true t (fun _ => v)) : ∃ (p : Nat) (k : Nat → Value), v = .ref p ∧ p < b ∧ c p = some (.inl (if zk t = 0 then 32 else 28 + zk t), 0, k) := by
  match t, h with
  | .leaf (.inl x), h => obtain ⟨p, k, h1, h2, h3, h4⟩ := h; exact ⟨p, k, h1, h2, h3⟩
  | .leaf (.inr (.inl a)), h => obtain ⟨p, k, h1, h2, h3, h4⟩ := h; exact ⟨p, k, h1, h2, h3⟩
  | .leaf (.inr (.inr a)), h => obtain ⟨p, k, q, m, h1, h2, h3, h4⟩ := h; exact ⟨p, k, h1, h2.2, h3⟩
  | .branch _ _ _, h => obtain ⟨p, k, q, m, h1, h2, h3, h4⟩ := h; exact ⟨p, k, h1, h2, h3⟩
