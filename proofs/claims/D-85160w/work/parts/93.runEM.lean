/-! THE MODEL: a run, from its begin to its end -/
theorem rmT_shift {h : Nat → Int32} {a B b : Nat} (hb : a + B ≤ b) (hr : a + B ≤ 19280) : ∀ (t : Th), (∀ p j, rmT (fun i => h (a + i)) B true t p j → rmT h b true t (a + p) j) ∧ ∀ p i, rmT (fun i => h (a + i)) B false t p i → rmT h b false t (a + p) i := by
  have hI : ∀ {p : Nat} {r : List Int32}, rmI (fun i => h (a + i)) B p r → rmI h b (a + p) r := by
    intro p r k
    obtain ⟨h1, h2, h3, h4⟩ := k
    exact ⟨by omega, h2, h3, fun i hi => by have := h4 i hi; rw [show a + p + 2 + i = a + (p + 2 + i) by omega]; exact this⟩
  intro t
  induction t with
  | leaf y =>
    refine ⟨fun p j k => ?_, fun _ _ _ => trivial⟩
    match y, k with
    | .inr (.inl r), k => exact hI k
    | .inr (.inr r), k =>
      obtain ⟨h1, h2, h3, h4⟩ := k
      refine ⟨by omega, h2, h3, fun i hi => ?_⟩
      obtain ⟨q, e, k⟩ := h4 i hi
      exact ⟨a + q, by rw [nI_shift, show a + p + 2 + i = a + (p + 2 + i) by omega]; exact e, hI k⟩
  | branch k0 x r i1 i2 =>
    refine ⟨fun p j k => ?_, fun p i k => ?_⟩
    · obtain ⟨h1, h2, h3, h4⟩ := k
      exact ⟨by omega, h2, h3, i1.2 p 0 h4⟩
    · refine ⟨?_, i2.2 p (i + 1) k.2⟩
      rcases k.1 with ⟨a1, a2, a3⟩ | ⟨a1, a2, q, a3, a4⟩
      · exact Or.inl ⟨a1, by rw [show a + p + 2 + 2 * i = a + (p + 2 + 2 * i) by omega]; exact a2, by rw [show a + p + 3 + 2 * i = a + (p + 3 + 2 * i) by omega]; exact a3⟩
      · exact Or.inr ⟨a1, by rw [show a + p + 2 + 2 * i = a + (p + 2 + 2 * i) by omega]; exact a2, a + q, by rw [nI_shift, show a + p + 3 + 2 * i = a + (p + 3 + 2 * i) by omega]; exact a3, i1.1 q 0 a4⟩
/-- what is on a shelf, as a value of a run -/
theorem mSl.var {h : Nat → Int32} {k b : Nat} {o : Option Th} (hk : k < 8) (hb : 19280 ≤ b) (q : mSl h (2410 * k) o) : (o = none ∧ h (2410 * k) = -1) ∨ (¬ h (2410 * k) = -1 ∧ ((h (2410 * k) = 0 ∧ mVar h b 0 (h (2410 * k + 1)) o) ∨ (¬ h (2410 * k) = 0 ∧ mVar h b 1 (nI (2410 * k)) o))) := by
  cases o with
  | none => exact Or.inl ⟨rfl, q⟩
  | some t =>
    obtain ⟨wt, q1⟩ := q
    rcases q1 with ⟨a1, a2, a3⟩ | ⟨a1, a2⟩
    · refine Or.inr ⟨by rw [a2]; decide, Or.inl ⟨a2, Or.inl ⟨a1, rfl, a3⟩, wt⟩⟩
    · have hh : h (2410 * k) = nI (zk t) := (rmT_head a2).2.1
      have hkt := zk_le t
      have n0 : ¬ nI (zk t) = 0 := by
        rw [show (0 : Int32) = nI 0 from rfl, nI_eq (by omega) (by decide)]; exact a1
      have := (rmT_shift (b := b) (show 2410 * k + 2410 ≤ b by omega) (by omega) t).1 0 0 a2
      exact Or.inr ⟨by rw [hh]; exact nI_ne_m1 (by omega), Or.inr ⟨by rw [hh]; exact n0, Or.inr ⟨a1, rfl, 2410 * k, rfl, this⟩, wt⟩⟩
abbrev JE : List Nat := [118, 125] ++ JR
/-- what a run leaves -/
def mEnd (s s' : MS) (sh : Nat → Option Th) (ct : Ct) (out : List Int32) (tr : Nat × Int32 × Int32) : Prop :=
  (∀ k, k < 8 → mSl (s'.2.2.1 104) (2410 * k) (sh k)) ∧ (∀ i, 19280 ≤ i → i < 134960 → s'.2.2.1 104 i = s.2.2.1 104 i) ∧ (s'.1 117 = nI ct.1 ∧ s'.1 119 = nI ct.2.1 ∧ s'.1 120 = nI ct.2.2.1 ∧ s'.1 121 = nI ct.2.2.2) ∧ (s'.1 123 = nI tr.1 ∧ s'.1 124 = tr.2.1 ∧ (tr.1 = 9 → s'.1 122 = tr.2.2) ∧ s'.1 125 = 1) ∧ mOut s' out ∧ (∀ j, j ∉ JE → s'.1 j = s.1 j) ∧ s'.2.1 = s.2.1 ∧ s'.2.2.2 = s.2.2.2 ∧ ∀ j, j ∉ JRA → ¬ j = 115 → ¬ j = 116 → s'.2.2.1 j = s.2.2.1 j
section MRn
variable {l : Launch} {E : EN} {w : MO} {d : Nat} {s : MS} {Q : Option Value → MS → Prop} {P : Pg} {fuel : Nat} {sh : Nat → Option Th}
/-- a run's end: shelves get what the run has left -/
theorem M_runEnd (hst : l.stackTraces = false) {b : Nat} {sh' : Nat → Option Th} (hb : b ≤ 166300) (hv : ∀ k, k < 8 → mVar (s.2.2.1 104) b (s.2.2.1 128 k) (s.2.2.1 129 k) (sh' k)) (hQ : ∀ s', (∀ k, k < 8 → mSl (s'.2.2.1 104) (2410 * k) (sh' k)) → (∀ i, 19280 ≤ i → i < 134960 → s'.2.2.1 104 i = s.2.2.1 104 i) → s'.1 = s.1 → s'.2.1 = s.2.1 → s'.2.2.2 = s.2.2.2 → (∀ j, ¬ j = 104 → ¬ j = 115 → ¬ j = 116 → s'.2.2.1 j = s.2.2.1 j) → Q (some (.int 0)) s') : ExM l E w (d + 5) MX10_run 363 [some (.ref w.1), none, none, none, some (.int 0), none] [] s Q := by
  have back : ∀ m k (s2 : MS), k + m = 8 → s2.1 = s.1 → s2.2.1 = s.2.1 → s2.2.2.2 = s.2.2.2 → (∀ j, ¬ j = 104 → ¬ j = 115 → ¬ j = 116 → s2.2.2.1 j = s.2.2.1 j) → (∀ i, 19280 ≤ i → i < 134960 → s2.2.2.1 104 i = s.2.2.1 104 i) → (∀ i, i < 8 → mSl (s2.2.2.1 104) (2410 * (56 + i)) (sh' i)) → (∀ i, i < k → mSl (s2.2.2.1 104) (2410 * i) (sh' i)) → ExM l E w (d + 5) MX10_run 406 [some (.ref w.1), none, none, none, some (.int (nI k)), none] [] s2 Q := by
    intro m
    induction m with
    | zero =>
      intro k s2 hk g1 g2 g3 g4 g5 g6 g7
      have hk : k = 8 := hk
      subst hk
      exact vX10_run_406 (pk_le 8 8 (fun _ => hQ s2 g7 g5 g1 g2 g3 g4) (fun c => by omega) rfl rfl)
    | succ m ih =>
      intro k s2 hk g1 g2 g3 g4 g5 g6 g7
      refine vX10_run_406 (pk_le 8 k (fun c => by omega) (fun _ => ?_) rfl rfl)
      have e1 : (2410 : Int32) * (56 + nI k) = nI (2410 * (56 + k)) := by
        rw [show (56 : Int32) + nI k = nI (56 + k) from nI_add 56 k, show (2410 : Int32) = nI 2410 from rfl, pk_mul]
      have e2 : (2410 : Int32) * nI k = nI (2410 * k) := by rw [show (2410 : Int32) = nI 2410 from rfl, pk_mul]
      rw [e1, e2]
      refine M_copy hst (g6 k (by omega)) (by omega) (by omega) (by omega) (fun s3 q1 q2 => ⟨rfl, ?_⟩)
      rw [nI_1]
      obtain ⟨f1, f2, f3, f4, f5⟩ := q1
      refine ih (k + 1) s3 (by omega) (f1.trans g1) (f2.trans g2) (f3.trans g3) (fun j h1 h2 h3 => (f5 j h1 h2 h3).trans (g4 j h1 h2 h3)) (fun i h1 h2 => (f4 i (by omega)).trans (g5 i h1 h2)) (fun i hi => (g6 i hi).eq (fun x h1 h2 => f4 x (by omega))) (fun i hi => ?_)
      by_cases e : i = k
      · rw [e]; exact q2
      · exact (g7 i (by omega)).eq (fun x h1 h2 => f4 x (by omega))
  have fwd : ∀ m k (s2 : MS), k + m = 8 → s2.1 = s.1 → s2.2.1 = s.2.1 → s2.2.2.2 = s.2.2.2 → (∀ j, ¬ j = 104 → ¬ j = 115 → ¬ j = 116 → s2.2.2.1 j = s.2.2.1 j) → (∀ i, (i < 134960 ∨ 154240 ≤ i) → s2.2.2.1 104 i = s.2.2.1 104 i) → (∀ i, i < k → mSl (s2.2.2.1 104) (2410 * (56 + i)) (sh' i)) → ExM l E w (d + 5) MX10_run 363 [some (.ref w.1), none, none, none, some (.int (nI k)), none] [] s2 Q := by
    intro m
    induction m with
    | zero =>
      intro k s2 hk g1 g2 g3 g4 g5 g6
      have hk : k = 8 := hk
      subst hk
      exact vX10_run_363 (pk_le 8 8 (fun _ => back 8 0 s2 rfl g1 g2 g3 g4 (fun i _ h => g5 i (Or.inl h)) g6 (fun i hi => absurd hi (Nat.not_lt_zero i))) (fun c => by omega) rfl rfl)
    | succ m ih =>
      intro k s2 hk g1 g2 g3 g4 g5 g6
      refine vX10_run_363 (pk_le 8 k (fun c => by omega) (fun _ => ⟨inB_n (by omega), inB_n (by omega), ?_⟩) rfl rfl)
      have e1 : (2410 : Int32) * (56 + nI k) = nI (2410 * (56 + k)) := by
        rw [show (56 : Int32) + nI k = nI (56 + k) from nI_add 56 k, show (2410 : Int32) = nI 2410 from rfl, pk_mul]
      rw [e1, nI_clamp (n := k) (by omega), g4 128 (by decide) (by decide) (by decide), g4 129 (by decide) (by decide) (by decide)]
      refine M_layV hst ((hv k (by omega)).eqR (fun i hi h => g5 i (by omega))) hb (by omega) (by omega) (fun s3 q1 q2 => ⟨rfl, ?_⟩)
      rw [nI_1]
      obtain ⟨f1, f2, f3, f4, f5⟩ := q1
      refine ih (k + 1) s3 (by omega) (f1.trans g1) (f2.trans g2) (f3.trans g3) (fun j h1 h2 h3 => (f5 j h1 h2 h3).trans (g4 j h1 h2 h3)) (fun i h => (f4 i (by omega)).trans (g5 i h)) (fun i hi => ?_)
      by_cases e : i = k
      · rw [e]; exact q2
      · exact (g6 i (by omega)).eq (fun x h1 h2 => f4 x (by omega))
  exact fwd 8 0 s rfl rfl rfl rfl (fun _ _ _ _ => rfl) (fun _ _ => rfl) (fun i hi => absurd hi (Nat.not_lt_zero i))
end MRn
