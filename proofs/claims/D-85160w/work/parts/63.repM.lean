/-! THINGS IN THE MODEL'S ROW OF NUMBERS: h the numbers, b a place below which all of it lies -/
def rmI (h : Nat → Int32) (b p : Nat) (a : List Int32) : Prop := (p + 2 + a.length ≤ b ∧ (p + 2 + a.length ≤ 19280 ∨ 154240 ≤ p)) ∧ h p = 1 ∧ h (p + 1) = nI a.length ∧ ∀ i, i < a.length → h (p + 2 + i) = a.getD i 0
def rmT (h : Nat → Int32) (b : Nat) : Bool → Th → Nat → Nat → Prop
  | true, .leaf (.inl _), _, _ => False
  | true, .leaf (.inr (.inl a)), p, _ => rmI h b p a
  | true, .leaf (.inr (.inr a)), p, _ => (p + 2 + a.length ≤ b ∧ (p + 2 + a.length ≤ 19280 ∨ 154240 ≤ p)) ∧ h p = 2 ∧ h (p + 1) = nI a.length ∧ ∀ i, i < a.length → ∃ q, h (p + 2 + i) = nI q - nI p ∧ rmI h b q (a.getD i [])
  | true, .branch _ s _, p, _ => (p + 2 + 2 * (zl s).length ≤ b ∧ (p + 2 + 2 * (zl s).length ≤ 19280 ∨ 154240 ≤ p)) ∧ h p = 3 ∧ h (p + 1) = nI (zl s).length ∧ rmT h b false s p 0
  | false, .leaf _, _, _ => True
  | false, .branch _ x r, p, i => ((zk x = 0 ∧ h (p + 2 + 2 * i) = 0 ∧ h (p + 3 + 2 * i) = zv x) ∨ (¬ zk x = 0 ∧ h (p + 2 + 2 * i) = 1 ∧ ∃ q, h (p + 3 + 2 * i) = nI q - nI p ∧ rmT h b true x q 0)) ∧ rmT h b false r p (i + 1)
theorem rmI_mono {h h' : Nat → Int32} {b b' : Nat} (hb : b ≤ b') (hc : ∀ a, a < b → h' a = h a) {p : Nat} {a : List Int32} (k : rmI h b p a) : rmI h' b' p a := by
  obtain ⟨h1, h2, h3, h4⟩ := k
  exact ⟨by omega, by rw [hc p (by omega)]; exact h2, by rw [hc _ (by omega)]; exact h3, fun i hi => by rw [hc _ (by omega)]; exact h4 i hi⟩
theorem rmT_spine {h : Nat → Int32} {b : Nat} : ∀ (s : Th) (p i : Nat), rmT h b false s p i ↔ ∀ j, j < (zl s).length → ((zk ((zl s).getD j (zI 0)) = 0 ∧ h (p + 2 + 2 * (i + j)) = 0 ∧ h (p + 3 + 2 * (i + j)) = zv ((zl s).getD j (zI 0))) ∨ (¬ zk ((zl s).getD j (zI 0)) = 0 ∧ h (p + 2 + 2 * (i + j)) = 1 ∧ ∃ q, h (p + 3 + 2 * (i + j)) = nI q - nI p ∧ rmT h b true ((zl s).getD j (zI 0)) q 0)) := by
  intro s
  induction s with
  | leaf y => exact fun p i => ⟨fun _ j hj => absurd hj (Nat.not_lt_zero j), fun _ => trivial⟩
  | branch k x r i1 i2 =>
    intro p i
    constructor
    · intro q j hj
      cases j with
      | zero => exact q.1
      | succ j =>
        have := (i2 p (i + 1)).mp q.2 j (Nat.lt_of_succ_lt_succ hj)
        have e : i + 1 + j = i + (j + 1) := by omega
        rw [e] at this
        exact this
    · intro q
      refine ⟨q 0 (Nat.succ_pos _), (i2 p (i + 1)).mpr fun j hj => ?_⟩
      have := q (j + 1) (Nat.succ_lt_succ hj)
      have e : i + 1 + j = i + (j + 1) := by omega
      rw [e]
      exact this
theorem rmT_mono {h h' : Nat → Int32} {b b' : Nat} (hb : b ≤ b') (hc : ∀ a, a < b → h' a = h a) : ∀ (t : Th), (∀ p j, rmT h b true t p j → rmT h' b' true t p j) ∧ ∀ p i, (p + 2 + 2 * (i + (zl t).length) ≤ b) → rmT h b false t p i → rmT h' b' false t p i := by
  intro t
  induction t with
  | leaf y =>
    refine ⟨fun p j k => ?_, fun _ _ _ _ => trivial⟩
    match y, k with
    | .inr (.inl a), k => exact rmI_mono hb hc k
    | .inr (.inr a), k =>
      obtain ⟨h1, h2, h3, h4⟩ := k
      refine ⟨by omega, by rw [hc p (by omega)]; exact h2, by rw [hc _ (by omega)]; exact h3, fun i hi => ?_⟩
      obtain ⟨q, e, k⟩ := h4 i hi
      exact ⟨q, by rw [hc _ (by omega)]; exact e, rmI_mono hb hc k⟩
  | branch k0 x r i1 i2 =>
    refine ⟨fun p j k => ?_, fun p i hp k => ?_⟩
    · obtain ⟨h1, h2, h3, h4⟩ := k
      exact ⟨by omega, by rw [hc p (by omega)]; exact h2, by rw [hc _ (by omega)]; exact h3, i1.2 p 0 (by omega) h4⟩
    · have hl : (zl (.branch k0 x r)).length = (zl r).length + 1 := rfl
      rw [hl] at hp
      refine ⟨?_, i2.2 p (i + 1) (by omega) k.2⟩
      rcases k.1 with ⟨a1, a2, a3⟩ | ⟨a1, a2, q, a3, a4⟩
      · exact Or.inl ⟨a1, by rw [hc _ (by omega)]; exact a2, by rw [hc _ (by omega)]; exact a3⟩
      · exact Or.inr ⟨a1, by rw [hc _ (by omega)]; exact a2, q, by rw [hc _ (by omega)]; exact a3, i1.1 q 0 a4⟩
/-- a value of the model: its kind's number, its number -/
def rmV (h : Nat → Int32) (b : Nat) (k v : Int32) (t : Th) : Prop := (zk t = 0 ∧ k = 0 ∧ v = zv t) ∨ (¬ zk t = 0 ∧ k = 1 ∧ ∃ q, v = nI q ∧ rmT h b true t q 0)
theorem rmV_mono {h h' : Nat → Int32} {b b' : Nat} (hb : b ≤ b') (hc : ∀ a, a < b → h' a = h a) {k v : Int32} {t : Th} (q : rmV h b k v t) : rmV h' b' k v t := by
  rcases q with q | ⟨a1, a2, p, a3, a4⟩
  · exact Or.inl q
  · exact Or.inr ⟨a1, a2, p, a3, (rmT_mono hb hc t).1 p 0 a4⟩
/-- kind and size -/
theorem rmT_head {h : Nat → Int32} {b : Nat} {t : Th} {p : Nat} (k : rmT h b true t p 0) : ¬ zk t = 0 ∧ h p = nI (zk t) ∧ h (p + 1) = nI (zn t) ∧ p + 2 + zn t ≤ b := by
  match t, k with
  | .leaf (.inr (.inl a)), k => exact ⟨by show ¬ 1 = 0; decide, k.2.1, k.2.2.1, k.1.1⟩
  | .leaf (.inr (.inr a)), k => exact ⟨by show ¬ 2 = 0; decide, k.2.1, k.2.2.1, k.1.1⟩
  | .branch _ s _, k => exact ⟨by show ¬ 3 = 0; decide, k.2.1, k.2.2.1, by have := k.1.1; show p + 2 + (zl s).length ≤ b; omega⟩
/-- what is in a pack -/
theorem rmT_packAt {h : Nat → Int32} {b : Nat} {t : Th} {p i : Nat} (hk : zk t = 3) (k : rmT h b true t p 0) (hi : i < zn t) : p + 4 + 2 * i ≤ b ∧ ((zk (zel t i) = 0 ∧ h (p + 2 + 2 * i) = 0 ∧ h (p + 3 + 2 * i) = zv (zel t i)) ∨ (¬ zk (zel t i) = 0 ∧ h (p + 2 + 2 * i) = 1 ∧ ∃ q, h (p + 3 + 2 * i) = nI q - nI p ∧ rmT h b true (zel t i) q 0)) := by
  match t, hk, k, hi with
  | .branch _ s _, _, k, hi =>
    obtain ⟨h1, h2, h3, h4⟩ := k
    have hi : i < (zl s).length := hi
    have := (rmT_spine s p 0).mp h4 i hi
    rw [Nat.zero_add] at this
    exact ⟨by omega, this⟩
theorem rmT_tabAt {h : Nat → Int32} {b : Nat} {t : Th} {p i : Nat} (hk : zk t = 2) (k : rmT h b true t p 0) (hi : i < zn t) : p + 3 + i ≤ b ∧ ∃ q, h (p + 2 + i) = nI q - nI p ∧ rmT h b true (zel t i) q 0 ∧ zk (zel t i) = 1 := by
  match t, hk, k, hi with
  | .leaf (.inr (.inr a)), _, k, hi =>
    obtain ⟨h1, h2, h3, h4⟩ := k
    have hi : i < a.length := hi
    obtain ⟨q, e, k⟩ := h4 i hi
    have e2 : zel (zT a) i = zR (a.getD i []) := by
      show (a.map zR).getD i (zI 0) = _
      simp [List.getD, hi]
    refine ⟨by omega, q, e, ?_, ?_⟩
    · show rmT h b true (zel (zT a) i) q 0
      rw [e2]; exact k
    · show zk (zel (zT a) i) = 1
      rw [e2]; rfl
theorem rmT_rowAt {h : Nat → Int32} {b : Nat} {t : Th} {p i : Nat} (hk : zk t = 1) (k : rmT h b true t p 0) (hi : i < zn t) : p + 3 + i ≤ b ∧ h (p + 2 + i) = zv (zel t i) ∧ zk (zel t i) = 0 := by
  match t, hk, k, hi with
  | .leaf (.inr (.inl a)), _, k, hi =>
    obtain ⟨h1, h2, h3, h4⟩ := k
    have hi : i < a.length := hi
    have e2 : zel (zR a) i = zI (a.getD i 0) := by
      show (a.map zI).getD i (zI 0) = _
      simp [List.getD, hi]
    refine ⟨by omega, ?_, ?_⟩
    · show _ = zv (zel (zR a) i)
      rw [e2]; exact h4 i hi
    · show zk (zel (zR a) i) = 0
      rw [e2]; rfl
theorem nI_back (a q : Nat) : nI a + (nI q - nI a) = nI q := by rw [Int32.add_comm, Int32.sub_add_cancel]
