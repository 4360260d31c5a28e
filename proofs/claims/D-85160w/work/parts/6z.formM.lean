/-! THE MODEL: what comes out -/
abbrev JO : List Nat := [112, 144]
def mfO (s s' : MS) : Prop := (∀ j, j ∉ JO → s'.1 j = s.1 j) ∧ s'.2.1 = s.2.1 ∧ s'.2.2.2 = s.2.2.2 ∧ ∀ j, j ∉ [109, 110, 111, 143] → s'.2.2.1 j = s.2.2.1 j
theorem mfO.rf (s : MS) : mfO s s := ⟨fun _ _ => rfl, rfl, rfl, fun _ _ => rfl⟩
theorem mfO.trans {s s' s'' : MS} (h : mfO s s') (k : mfO s' s'') : mfO s s'' := ⟨fun j hj => (k.1 j hj).trans (h.1 j hj), k.2.1.trans h.2.1, k.2.2.1.trans h.2.2.1, fun j hj => (k.2.2.2 j hj).trans (h.2.2.2 j hj)⟩
theorem mfO.sI (s : MS) (j : Nat) (v : Int32) (hj : j ∈ JO := by decide) : mfO s (sI s j v) := ⟨fun i hi => sI_ne s v (fun e => hi (e ▸ hj)), rfl, rfl, fun _ _ => rfl⟩
theorem mfO.gA (s : MS) {j k : Nat} (v : Int32) (hj : j ∈ [109, 110, 111, 143] := by decide) : mfO s (sA s j k v) := ⟨fun _ _ => rfl, rfl, rfl, fun i hi => by
  funext z
  exact sA_ne s v (fun e => hi (by rw [e.1]; exact hj))⟩
/-- what has come out, as far as it is kept -/
def mOut (s : MS) (out : List Int32) : Prop := s.1 144 = nI out.length ∧ ∀ i, i < out.length → i < 600 → s.2.2.1 143 i = (out.getD i 0).toInt8.toInt32
theorem lN_toI {n : Nat} (h : n < 2 ^ 63) : (lN n).toInt = n := lg_ofNat_toInt h
theorem lN_inj' {x : Int64} {n : Nat} (h : n < 2 ^ 63) (e : x.toInt = n) : x = lN n := by rw [← Int64.toInt_inj, e, lN_toI h]
theorem lN_div {n b : Nat} (hn : n < 2 ^ 62) (hb : 0 < b) (hb2 : b < 2 ^ 62) : lN n / lN b = lN (n / b) := by
  have h1 : n / b ≤ n := Nat.div_le_self n b
  refine lN_inj' (by omega) ?_
  rw [lg_ldiv_nonneg (by rw [lN_toI (by omega)]; omega) (by rw [lN_toI (by omega)]; omega), lN_toI (by omega), lN_toI (by omega)]
  exact (Int.natCast_ediv n b).symm
theorem lN_le' {a b : Nat} (ha : a < 2 ^ 62) (hb : b < 2 ^ 62) : lN a ≤ lN b ↔ a ≤ b := by
  rw [Int64.le_iff_toInt_le, lN_toI (by omega), lN_toI (by omega)]; omega
theorem zby_le (n : Nat) : ∀ g b, 0 < b → zby g n b ≤ max b n ∧ 0 < zby g n b
  | 0, b, h => ⟨Nat.le_max_left .., h⟩
  | g + 1, b, h => by
    show (if 9 < n / b then zby g n (10 * b) else b) ≤ max b n ∧ 0 < (if 9 < n / b then zby g n (10 * b) else b)
    by_cases c : 9 < n / b
    · rw [if_pos c]
      have h10 : 10 * b ≤ n := by
        have := Nat.div_mul_le_self n b
        have h2 : 10 * b ≤ n / b * b := Nat.mul_le_mul_right b c
        omega
      have := zby_le n g (10 * b) (by omega)
      omega
    · rw [if_neg c]
      exact ⟨Nat.le_max_left .., h⟩
section MO9
variable {l : Launch} {E : EN} {w : MO} {d : Nat} {s s0 : MS} {Q : Option Value → MS → Prop} {b n md b1 : Nat} {out : List Int32}
theorem M_says {K : MS → Prop} (hst : l.stackTraces = false) {c : Int32} (ho : mOut s out) (hl : out.length + 1 < 2 ^ 31) (hQ : ∀ s', mfO s s' → (∀ j, s'.2.2.1 109 j = s.2.2.1 109 j ∧ s'.2.2.1 111 j = s.2.2.1 111 j) → s'.1 112 = s.1 112 → mOut s' (out ++ [c]) → K s') : EvM l E w d MX10_says [.ref w.1, .int c] s (fun r s' => r = none ∧ K s') := by
  refine eX10_says hst ?_
  rw [ho.1, nI_1]
  have hlen : (out ++ [c]).length = out.length + 1 := by rw [List.length_append]; rfl
  refine pk_le 600 out.length (fun k => ⟨rfl, hQ _ (mfO.sI s 144 _) (fun j => ⟨rfl, rfl⟩) rfl ⟨by rw [hlen]; rfl, fun i hi h6 => ?_⟩⟩) (fun k => ⟨inB_n k, rfl, hQ _ ((mfO.gA s _).trans (mfO.sI _ 144 _)) (fun j => ⟨rfl, rfl⟩) rfl ⟨by rw [hlen]; rfl, fun i hi h6 => ?_⟩⟩) rfl rfl
  · rw [getD_app1 _ _ (by omega)]
    exact ho.2 i (by omega) h6
  · rw [nI_clamp (by omega)]
    show (if 143 = 143 ∧ i = out.length then c.toInt8.toInt32.toInt8.toInt32 else s.2.2.1 143 i) = _
    by_cases e : i = out.length
    · rw [if_pos ⟨rfl, e⟩, e, getD_last]
      congr 1
      exact Int8.toInt8_toInt32 _
    · rw [if_neg (fun z => e z.2), getD_app1 _ _ (by rw [hlen] at hi; omega)]
      exact ho.2 i (by rw [hlen] at hi; omega) h6
/-- a number comes out -/
theorem M_number {K : MS → Prop} (hst : l.stackTraces = false) {v : Int32} (ho : mOut s out) (hl : out.length + (znum v).length < 2 ^ 31) (hQ : ∀ s', mfO s s' → (∀ j, s'.2.2.1 109 j = s.2.2.1 109 j ∧ s'.2.2.1 111 j = s.2.2.1 111 j) → s'.1 112 = s.1 112 → mOut s' (out ++ znum v) → K s') : EvM l E w (d + 1) MX10_number [.ref w.1, .int v] s (fun r s' => r = none ∧ K s') := by
  have hr := i32_rng v
  have hn : v.toInt.natAbs ≤ 2 ^ 31 := by omega
  have hzn : znum v = (if v < 0 then [45] else []) ++ zdg 12 v.toInt.natAbs (zby 12 v.toInt.natAbs 1) := rfl
  generalize hN : v.toInt.natAbs = N at hn hzn
  -- the digits
  have dig : ∀ g b (out1 : List Int32) (s1 : MS), b < 10 ^ g → b < 2 ^ 40 → mOut s1 out1 → out1 ++ zdg g N b = out ++ znum v → mfO s s1 → (∀ j, s1.2.2.1 109 j = s.2.2.1 109 j ∧ s1.2.2.1 111 j = s.2.2.1 111 j) → s1.1 112 = s.1 112 → ExM l E w (d + 1) MX10_number 43 [some (.ref w.1), none, some (.long (lN N)), none, some (.long (lN b)), none] [] s1 (fun r s' => r = none ∧ K s') := by
    intro g
    induction g with
    | zero =>
      intro b out1 s1 hb hb2 ho1 he hf hj h112
      have hb : b = 0 := by omega
      subst hb
      have e0 : zdg 0 N 0 = [] := rfl
      rw [e0, List.append_nil] at he
      subst he
      refine vX10_number_43 ⟨fun _ => ⟨rfl, hQ s1 hf hj h112 ho1⟩, fun c => absurd ?_ c⟩
      rw [lg_cmp_le]; decide
    | succ g ih =>
      intro b out1 s1 hb hb2 ho1 he hf hj h112
      by_cases b0 : b = 0
      · subst b0
        have e0 : zdg (g + 1) N 0 = [] := rfl
        rw [e0, List.append_nil] at he
        subst he
        refine vX10_number_43 ⟨fun _ => ⟨rfl, hQ s1 hf hj h112 ho1⟩, fun c => absurd ?_ c⟩
        rw [lg_cmp_le]; decide
      · have e1 : zdg (g + 1) N b = nI (48 + N / b % 10) :: zdg g N (b / 10) := if_neg b0
        rw [e1] at he
        have hlen := congrArg List.length he
        rw [List.length_append, List.length_cons, List.length_append] at hlen
        have hq : N / b ≤ N := Nat.div_le_self N b
        refine vX10_number_43 ⟨fun c => ?_, fun _ => ⟨?_, ?_⟩⟩
        · exfalso
          rw [lg_cmp_le, show (0 : Int64) = lN 0 from rfl, lN_le' (by omega) (by omega)] at c
          omega
        · intro z
          have := congrArg Int64.toInt z
          rw [lN_toI (by omega)] at this
          have : (b : Int) = 0 := this
          omega
        · have ea : (48 + (lN N / lN b - lN N / lN b / 10 * 10)).toInt32 = nI (48 + N / b % 10) := by
            rw [lN_div (by omega) (by omega) (by omega), show (10 : Int64) = lN 10 from rfl, lN_div (by omega) (by omega) (by omega), lN_mul, lN_sub (by omega), show (48 : Int64) = lN 48 from rfl, lN_add, lN_i]
            congr 1
            omega
          rw [ea]
          refine M_says hst ho1 (by omega) (fun s2 q1 q2 q3 q4 => ?_)
          intro y2 e2
          rw [show (10 : Int64) = lN 10 from rfl, lN_div (by omega) (by omega) (by omega)] at e2
          rw [e2]
          refine ih (b / 10) (out1 ++ [nI (48 + N / b % 10)]) s2 (by rw [Nat.pow_succ] at hb; omega) (by omega) q4 (by rw [List.append_assoc]; exact he) (hf.trans q1) (fun j => ⟨(q2 j).1.trans (hj j).1, (q2 j).2.trans (hj j).2⟩) (q3.trans h112)
  -- the power of ten
  have pow : ∀ g b (out1 : List Int32) (s1 : MS), 0 < b → N < b * 10 ^ g → b ≤ 2 ^ 36 → zby g N b = zby 12 N 1 → mOut s1 out1 → out1 ++ zdg 12 N (zby 12 N 1) = out ++ znum v → mfO s s1 → (∀ j, s1.2.2.1 109 j = s.2.2.1 109 j ∧ s1.2.2.1 111 j = s.2.2.1 111 j) → s1.1 112 = s.1 112 → ExM l E w (d + 1) MX10_number 21 [some (.ref w.1), none, some (.long (lN N)), none, some (.long (lN b)), none] [] s1 (fun r s' => r = none ∧ K s') := by
    intro g
    induction g with
    | zero =>
      intro b out1 s1 hb hN1 hb2 he ho1 heq hf hj h112
      have hNb : N < b := by rw [Nat.pow_zero, Nat.mul_one] at hN1; exact hN1
      have he : b = zby 12 N 1 := he
      have hb0 : ¬ lN b = 0 := by
        intro z
        have := congrArg Int64.toInt z
        rw [lN_toI (by omega)] at this
        have : (b : Int) = 0 := this
        omega
      have hle := zby_le N 12 1 (by decide)
      refine vX10_number_21 ⟨hb0, fun _ => ?_, fun c => absurd ?_ c⟩
      · rw [← he] at heq
        exact dig 12 b out1 s1 (by omega) (by omega) ho1 heq hf hj h112
      · rw [lg_cmp_le, lN_div (by omega) hb (by omega), show (9 : Int64) = lN 9 from rfl, lN_le' (by have := Nat.div_le_self N b; omega) (by omega), Nat.div_eq_of_lt hNb]
        decide
    | succ g ih =>
      intro b out1 s1 hb hN1 hb2 he ho1 heq hf hj h112
      have hb0 : ¬ lN b = 0 := by
        intro z
        have := congrArg Int64.toInt z
        rw [lN_toI (by omega)] at this
        have : (b : Int) = 0 := this
        omega
      have hq : N / b ≤ N := Nat.div_le_self N b
      have lc : lg_cmp (lN N / lN b) 9 ≤ 0 ↔ N / b ≤ 9 := by
        rw [lg_cmp_le, lN_div (by omega) hb (by omega), show (9 : Int64) = lN 9 from rfl, lN_le' (by omega) (by omega)]
      have hz : zby (g + 1) N b = if 9 < N / b then zby g N (10 * b) else b := rfl
      have hle := zby_le N 12 1 (by decide)
      refine vX10_number_21 ⟨hb0, ?_⟩
      rw [lc]
      refine ⟨fun c => ?_, fun c y1 e1 => ?_⟩
      · rw [hz, if_neg (by omega)] at he
        rw [← he] at heq
        exact dig 12 b out1 s1 (by omega) (by omega) ho1 heq hf hj h112
      · rw [hz, if_pos (by omega)] at he
        rw [show (10 : Int64) = lN 10 from rfl, lN_mul] at e1
        rw [e1]
        have h10 : 10 * b ≤ N := by
          have := Nat.div_mul_le_self N b
          have h2 : 10 * b ≤ N / b * b := Nat.mul_le_mul_right b (by omega)
          omega
        refine ih (10 * b) out1 s1 (by omega) ?_ (by omega) he ho1 heq hf hj h112
        rw [Nat.pow_succ] at hN1
        have e : 10 * b * 10 ^ g = b * (10 ^ g * 10) := by rw [Nat.mul_comm 10 b, Nat.mul_assoc, Nat.mul_comm 10]
        rw [e]; exact hN1
  refine eX10_number hst fun y1 e1 => ?_
  subst e1
  have lc : 0 ≤ lg_cmp v.toInt64 0 ↔ ¬ v < 0 := by
    rw [lg_cmp_ge, Int64.le_iff_toInt_le, i64_toInt, i32_neg]
    exact Int.not_lt.symm
  rw [lc]
  refine ⟨fun c => ?_, fun c => ?_⟩
  · have hv : v.toInt64 = lN N := lN_inj' (by omega) (by rw [i64_toInt]; rw [i32_neg] at c; omega)
    rw [hv]
    refine pow 12 1 out s (by omega) (by omega) (by omega) rfl ho ?_ (mfO.rf s) (fun j => ⟨rfl, rfl⟩) rfl
    rw [hzn, if_neg c]; rfl
  · have c : v < 0 := Decidable.not_not.mp c
    have hlz : 1 ≤ (znum v).length := by rw [hzn, if_pos c, List.length_append]; show 1 ≤ 1 + _; omega
    refine M_says hst ho (by omega) (fun s2 q1 q2 q3 q4 => ?_)
    intro y3 e3
    have hv : y3 = lN N := by
      refine lN_inj' (by omega) ?_
      rw [e3]
      refine i64_neg ?_ (by omega) (by omega)
      rw [i64_toInt]
      rw [i32_neg] at c
      omega
    rw [hv]
    refine pow 12 1 (out ++ [45]) s2 (by omega) (by omega) (by omega) rfl q4 ?_ q1 q2 q3
    rw [hzn, if_pos c, List.append_assoc]
end MO9
