/-! THE MODEL: a run -/
/-- the state after a run's begin -/
def mBeg (s : MS) (fuel : Int32) : MS := sA (sA (sI (sI (sI (sI (sI (sI (sI (sI (sI (sI (sI (sI (sI (sI s 125 1) 117 0) 118 fuel) 119 0) 120 0) 121 0) 122 0) 123 0) 124 (-1)) 144 0) 108 0) 136 0) 130 0) 105 154250) 104 154240 1) 104 154241 0
theorem mBeg_i (s : MS) (f : Int32) {j : Nat} (h : j ∉ [125, 117, 118, 119, 120, 121, 122, 123, 124, 144, 108, 136, 130, 105]) : (mBeg s f).1 j = s.1 j := by
  simp only [List.mem_cons, List.not_mem_nil, or_false, not_or] at h
  show (sI (sI (sI (sI (sI (sI (sI (sI (sI (sI (sI (sI (sI (sI s 125 1) 117 0) 118 f) 119 0) 120 0) 121 0) 122 0) 123 0) 124 (-1)) 144 0) 108 0) 136 0) 130 0) 105 154250).1 j = _
  rw [sI_ne _ _ (by omega), sI_ne _ _ (by omega), sI_ne _ _ (by omega), sI_ne _ _ (by omega), sI_ne _ _ (by omega), sI_ne _ _ (by omega), sI_ne _ _ (by omega), sI_ne _ _ (by omega), sI_ne _ _ (by omega), sI_ne _ _ (by omega), sI_ne _ _ (by omega), sI_ne _ _ (by omega), sI_ne _ _ (by omega), sI_ne _ _ (by omega)]
theorem mBeg_h (s : MS) (f : Int32) {i : Nat} (h : i < 154240) : (mBeg s f).2.2.1 104 i = s.2.2.1 104 i := by
  show (sA (sA (sI (sI (sI (sI (sI (sI (sI (sI (sI (sI (sI (sI (sI (sI s 125 1) 117 0) 118 f) 119 0) 120 0) 121 0) 122 0) 123 0) 124 (-1)) 144 0) 108 0) 136 0) 130 0) 105 154250) 104 154240 1) 104 154241 0).2.2.1 104 i = _
  rw [sA_ne _ _ (fun z => by omega), sA_ne _ _ (fun z => by omega)]; rfl
theorem mBeg_a (s : MS) (f : Int32) {j : Nat} (h : ¬ j = 104) : (mBeg s f).2.2.1 j = s.2.2.1 j := by
  funext i
  show (sA (sA (sI (sI (sI (sI (sI (sI (sI (sI (sI (sI (sI (sI (sI (sI s 125 1) 117 0) 118 f) 119 0) 120 0) 121 0) 122 0) 123 0) 124 (-1)) 144 0) 108 0) 136 0) 130 0) 105 154250) 104 154240 1) 104 154241 0).2.2.1 j i = _
  rw [sA_ne _ _ (fun z => h z.1), sA_ne _ _ (fun z => h z.1)]; rfl
section MRu
variable {l : Launch} {E : EN} {w : MO} {d : Nat} {s : MS} {Q : Option Value → MS → Prop} {P : Pg} {fuel : Nat} {sh : Nat → Option Th}
/-- from its begin up to the first order -/
theorem M_runBeg (hst : l.stackTraces = false) {j f0 bk fpc : Nat} {a2 : Int32} (hj : j < 24) (h69 : 12 * (s.1 69) + nI f0 = nI j) (h77 : s.2.2.1 77 j = nI fpc) (hf1 : 1 ≤ fuel) (hf2 : fuel ≤ 20000) (hsl : ∀ k, k < 8 → mSl (s.2.2.1 104) (2410 * k) (sh k)) (hQ : ∀ s', mS fuel (mBeg s (nI fuel)) fpc [] [(avars [], 0, bk, 0)] [] sh (0, 0, 1, 0) [] s' → ExM l E w (d + 10) MX10_run 258 [some (.ref w.1), none, some (.int a2), none, none, none] [] s' Q) : ExM l E w (d + 10) MX10_run 154 [some (.ref w.1), some (.int (nI f0)), some (.int a2), none, some (.int 0), none] [] (mBeg s (nI fuel)) Q := by
  have hb : ∀ k, k < 8 → mSl ((mBeg s (nI fuel)).2.2.1 104) (2410 * k) (sh k) := fun k hk => (hsl k hk).eq (fun i h1 h2 => mBeg_h s _ (by omega))
  have main : ∀ m k (s2 : MS), k + m = 8 → s2.1 = (mBeg s (nI fuel)).1 → s2.2.1 = s.2.1 → s2.2.2.2 = s.2.2.2 → (∀ i, ¬ i = 128 → ¬ i = 129 → s2.2.2.1 i = (mBeg s (nI fuel)).2.2.1 i) → (∀ i, i < k → mVar (s2.2.2.1 104) 154250 (s2.2.2.1 128 i) (s2.2.2.1 129 i) (sh i)) → ExM l E w (d + 10) MX10_run 154 [some (.ref w.1), some (.int (nI f0)), some (.int a2), none, some (.int (nI k)), none] [] s2 Q := by
    intro m
    induction m with
    | zero =>
      intro k s2 hk g1 g2 g3 g4 g5
      have hk : k = 8 := hk
      subst hk
      have e69 : s2.1 69 = s.1 69 := by rw [g1]; exact mBeg_i s _ (by decide)
      refine vX10_run_154 (pk_le 8 8 (fun _ => ?_) (fun c => by omega) rfl rfl)
      rw [e69, h69]
      have hS : mS fuel (mBeg s (nI fuel)) 0 ([] ++ []) [] [] sh (0, 0, 0, 0) [] s2 := by
        refine ⟨154250, ⟨trivial, by rw [g1]; rfl, trivial, by rw [g1]; rfl, g5, ⟨by rw [g1]; rfl, by rw [g1]; rfl, Nat.zero_le _, hf2⟩, ⟨by rw [g1]; rfl, Nat.zero_le _, by rw [g1]; rfl⟩, ⟨by rw [g1]; rfl, fun i hi => absurd hi (Nat.not_lt_zero i)⟩, ⟨by decide, by rw [g4 104 (by decide) (by decide)]; rfl, by rw [g4 104 (by decide) (by decide)]; rfl⟩, ⟨fun i _ => by rw [g1], g2, g3, fun i _ => by rw [g4 104 (by decide) (by decide)], fun i hi => g4 i (fun c => hi (by rw [c]; decide)) (fun c => hi (by rw [c]; decide))⟩⟩, trivial, by rw [g1]; rfl, by rw [g1]; rfl, by rw [g1]; rfl, Nat.le_refl _, by rw [g1]; rfl, by rw [g1]; rfl, fun c => absurd rfl c⟩
      exact M_enters hst (args := []) (rest := []) (bk := bk) (fpc := fpc) hS (by show 0 ≤ 8900; decide) (fun t ht => absurd ht List.not_mem_nil) hj (by rw [g4 77 (by decide) (by decide), mBeg_a s _ (by decide)]; exact h77) (fun c => absurd rfl c) (by show 0 < 10; decide) (fun s' q => ⟨rfl, hQ s' q⟩)
    | succ m ih =>
      intro k s2 hk g1 g2 g3 g4 g5
      have e104 := g4 104 (by decide) (by decide)
      have e2 : (2410 : Int32) * nI k = nI (2410 * k) := by rw [show (2410 : Int32) = nI 2410 from rfl, pk_mul]
      refine vX10_run_154 (pk_le 8 k (fun c => by omega) (fun _ y2 ey2 => ?_) rfl rfl)
      rw [e2] at ey2
      subst ey2
      have hin : inB (nI (2410 * k)) 166300 := inB_n (by omega)
      have hin1 : inB (nI (2410 * k + 1)) 166300 := inB_n (by omega)
      have hk8 : inB (nI k) 8 := inB_n (by omega)
      rw [show nI (2410 * k) + 1 = nI (2410 * k + 1) from nI_add _ 1, nI_clamp (n := 2410 * k) (by omega), nI_clamp (n := 2410 * k + 1) (by omega), nI_clamp (n := k) (by omega), show nI k + 1 = nI (k + 1) from nI_add k 1]
      have nxt : ∀ a v : Int32, mVar (s2.2.2.1 104) 154250 a v (sh k) → ExM l E w (d + 10) MX10_run 154 [some (.ref w.1), some (.int (nI f0)), some (.int a2), none, some (.int (nI (k + 1))), none] [] (sA (sA s2 128 k a) 129 k v) Q := by
        intro a v hv
        refine ih (k + 1) _ (by omega) g1 g2 g3 (fun i h1 h2 => ?_) (fun i hi => ?_)
        · rw [← g4 i h1 h2]
          funext z
          rw [sA_ne _ _ (fun e => h2 e.1), sA_ne _ _ (fun e => h1 e.1)]
        · have e4 : (sA (sA s2 128 k a) 129 k v).2.2.1 104 = s2.2.2.1 104 := by
            funext z
            rw [sA_ne _ _ (fun e => absurd e.1 (by decide)), sA_ne _ _ (fun e => absurd e.1 (by decide))]
          rw [e4]
          by_cases e : i = k
          · subst e
            have e8 : (sA (sA s2 128 i a) 129 i v).2.2.1 128 i = a := by
              rw [sA_ne _ _ (fun e => absurd e.1 (by decide))]; exact if_pos ⟨rfl, rfl⟩
            have e9 : (sA (sA s2 128 i a) 129 i v).2.2.1 129 i = v := if_pos ⟨rfl, rfl⟩
            rw [e8, e9]; exact hv
          · rw [sA_ne _ _ (fun z => absurd z.1 (by decide)), sA_ne _ _ (fun z => e z.2), sA_ne _ _ (fun z => e z.2), sA_ne _ _ (fun z => absurd z.1 (by decide))]
            exact g5 i (by omega)
      have hv := (hb k (by omega)).var (b := 154250) (by omega) (by omega)
      rw [← e104] at hv
      rcases hv with ⟨v1, v2⟩ | ⟨v1, ⟨v2, v3⟩ | ⟨v2, v3⟩⟩
      · rw [v2]
        refine ⟨hin, fun c => absurd rfl c, fun _ => ⟨hk8, hin, fun _ => ⟨hk8, nxt _ _ (by rw [v1]; rfl)⟩, fun c => absurd c (by decide)⟩⟩
      · rw [v2]
        refine ⟨hin, fun _ => ⟨hin, fun c => absurd rfl c, fun _ => ⟨hk8, hin, fun c => absurd rfl c, fun _ => ⟨hin1, hk8, nxt _ _ v3⟩⟩⟩, fun c => absurd c (by decide)⟩
      · exact ⟨hin, fun _ => ⟨hin, fun _ => ⟨hk8, hin, fun _ => ⟨hk8, nxt _ _ v3⟩, fun c => absurd c v2⟩, fun c => absurd c v2⟩, fun c => absurd c v1⟩
  exact main 8 0 _ rfl rfl rfl rfl (fun _ _ _ => rfl) (fun i hi => absurd hi (Nat.not_lt_zero i))
theorem mfR.fin {s s' : MS} {fu : Int32} (h : mfR (mBeg s fu) s') : (∀ j, j ∉ JE → s'.1 j = s.1 j) ∧ s'.2.1 = s.2.1 ∧ s'.2.2.2 = s.2.2.2 ∧ (∀ j, j ∉ JRA → s'.2.2.1 j = s.2.2.1 j) ∧ (∀ i, i < 154240 → s'.2.2.1 104 i = s.2.2.1 104 i) ∧ s'.1 125 = 1 := by
  obtain ⟨h1, h2, h3, h4, h5⟩ := h
  refine ⟨fun j hj => ?_, h2, h3, fun j hj => ?_, fun i hi => (h4 i (by omega)).trans (mBeg_h s fu hi), h1 125 (by decide)⟩
  · have hj' : j ∉ JR := fun z => hj (List.mem_append_right _ z)
    rw [h1 j hj']
    refine mBeg_i s fu (fun z => hj ?_)
    exact (by decide : ∀ j ∈ [125, 117, 118, 119, 120, 121, 122, 123, 124, 144, 108, 136, 130, 105], j ∈ JE) j z
  · rw [h5 j hj]
    exact mBeg_a s fu (fun z => hj (by rw [z]; decide))
/-- the shelves once a run's answer is put -/
def aShf (sh : Nat → Option Th) (x : Option Nat) (v : Th) : Nat → Option Th := match x with
  | none => sh
  | some k => vput sh k (some v)
def xShf : Option Nat → Int32
  | none => -1
  | some k => nI k
theorem M_run (hst : l.stackTraces = false) {j f0 many half bk : Nat} {x : Option Nat} {σ' : AS} (hhas : ¬ s.1 70 = 0) (h71 : s.1 71 = nI many) (hm12 : many ≤ 12) (hf0 : f0 < many) (h69 : s.1 69 = nI half) (hh1 : half ≤ 1) (hj : j = 12 * half + f0) (h75 : s.2.2.1 75 j = 0) (hx : ∀ k, x = some k → k < 8) (h77 : s.2.2.1 77 j = nI (P.2 j).2) (hc : mCode P s) (hf1 : 1 ≤ fuel) (hf2 : fuel ≤ 20000) (hsl : ∀ k, k < 8 → mSl (s.2.2.1 104) (2410 * k) (sh k)) (hrc : aRch P fuel ((P.2 j).2, [], [(avars [], 0, bk, 0)], [], sh, (0, 0, 1, 0), [], (0, -1, 0)) σ')
    (hok : ∀ pc v sh' ct out, σ' = (pc, [v], [], [], sh', ct, out, (0, -1, 0)) → ∀ s', mEnd s s' (aShf sh' x v) ct out (0, -1, 0) → Q (some (.int 0)) s') (htr : ∀ pc pl fr wy sh' ct out tr, σ' = (pc, pl, fr, wy, sh', ct, out, tr) → ¬ tr.1 = 0 → ∀ s', mEnd s s' sh ct out tr → Q (some (.int (nI tr.1))) s') (hσ : (∃ pc v sh' ct out, σ' = (pc, [v], [], [], sh', ct, out, (0, -1, 0)) ∧ ZW v ∧ ct.2.1 ≤ 3000) ∨ ¬ (aT σ').1 = 0) : EvM l E w (d + 10) MX10_run [.ref w.1, .int (nI f0), .int (xShf x), .int (nI fuel)] s Q := by
  have e12 : 12 * (s.1 69) + nI f0 = nI j := by
    rw [h69, show (12 : Int32) = nI 12 from rfl, pk_mul, nI_add, hj]
  have hx1 : ¬ xShf x < -1 := by
    cases x with
    | none => decide
    | some k =>
      have := hx k rfl
      show ¬ nI k < -1
      rw [Int32.lt_iff_toInt_lt, nI_toInt (by omega)]
      have e : (-1 : Int32).toInt = -1 := by decide
      rw [e]; omega
  have hx7 : ¬ 7 < xShf x := by
    cases x with
    | none => decide
    | some k =>
      have := hx k rfl
      show ¬ 7 < nI k
      rw [Int32.lt_iff_toInt_lt, nI_toInt (by omega)]
      have e : (7 : Int32).toInt = 7 := by decide
      rw [e]; omega
  have h71' : ¬ nI many ≤ nI f0 := by
    rw [Int32.le_iff_toInt_le, nI_toInt (by omega), nI_toInt (by omega)]; omega
  have hf1' : ¬ nI fuel < 1 := by
    rw [show (1 : Int32) = nI 1 from rfl, Int32.lt_iff_toInt_lt, nI_toInt (by omega), nI_toInt (by decide)]; omega
  have hf2' : nI fuel ≤ 20000 := by
    rw [show (20000 : Int32) = nI 20000 from rfl, Int32.le_iff_toInt_le, nI_toInt (by omega), nI_toInt (by decide)]; omega
  refine eX10_run hst ⟨fun c => absurd c hhas, fun _ => ⟨fun c => absurd c (i32_nn f0 (by omega)), fun _ => ⟨fun c => absurd c (by rw [h71]; exact h71'), fun _ => ?_⟩⟩⟩
  rw [e12, nI_clamp (by omega), h75]
  refine ⟨inB_n (by omega), fun c => absurd rfl c, fun _ => ⟨fun c => absurd c hx1, fun _ => ⟨fun c => absurd c hx7, fun _ => ⟨fun c => absurd c hf1', fun _ => ⟨fun _ => ⟨inB_n (n := 154240) (by decide), inB_n (n := 154241) (by decide), ?_⟩, fun c => absurd hf2' c⟩⟩⟩⟩⟩
  have e1 : (154240 : Int32).toNatClampNeg = 154240 := by decide
  have e2 : (154241 : Int32).toNatClampNeg = 154241 := by decide
  rw [e1, e2]
  have hc' : mCode P (mBeg s (nI fuel)) := by
    intro pc hpc
    have := hc pc hpc
    unfold mOd at this ⊢
    rw [mBeg_a s _ (show ¬ 80 = 104 by decide), mBeg_a s _ (show ¬ 84 = 104 by decide), mBeg_a s _ (show ¬ 81 = 104 by decide), mBeg_a s _ (show ¬ 82 = 104 by decide), mBeg_a s _ (show ¬ 83 = 104 by decide), mBeg_a s _ (show ¬ 77 = 104 by decide)]
    exact this
  refine M_runBeg (bk := bk) hst (by omega) e12 h77 hf1 hf2 hsl (fun s1 hS => ?_)
  refine M_loop hst hc' (σ' := σ') (fun s2 hR2 => ?_) _ s1 hrc (Or.inl ⟨rfl, hS⟩)
  rcases hσ with ⟨pc, v, sh', ct, out, e, wv, hm3⟩ | hne
  · subst e
    rcases hR2 with ⟨_, b, hB, hP, h105, h108, h119, hb, h123, h124, h126⟩ | ⟨b, hB, hP, h105, h119, hb, h123, n0, _⟩
    · obtain ⟨f1, f2, f3, f4, f5, f6⟩ := mfR.fin hB.2.2.2.2.2.2.2.2.2
      have h130 : s2.1 130 = nI 0 := hB.2.1
      have hpv := hP.1
      have hbb : b ≤ 166300 := by
        have := (hB.2.2.2.2.2.2.2.2.1).1
        omega
      have hsh := hB.2.2.2.2.1
      have fin : ∀ s3 : MS, s3.1 = s2.1 → s3.2.1 = s2.2.1 → s3.2.2.2 = s2.2.2.2 → (∀ j, ¬ j = 128 → ¬ j = 129 → s3.2.2.1 j = s2.2.2.1 j) → (∀ k, k < 8 → mVar (s3.2.2.1 104) b (s3.2.2.1 128 k) (s3.2.2.1 129 k) (aShf sh' x v k)) → ExM l E w (d + 10) MX10_run 363 [some (.ref w.1), none, none, none, some (.int 0), none] [] s3 Q := by
        intro s3 g1 g2 g3 g4 g5
        refine M_runEnd hst hbb g5 (fun s4 q1 q2 q3 q4 q5 q6 => hok pc v sh' ct out rfl s4 ?_)
        have e104 := g4 104 (by decide) (by decide)
        refine ⟨q1, fun i h1 h2 => ?_, ⟨?_, ?_, ?_, ?_⟩, ⟨?_, ?_, fun c => absurd c (by decide), ?_⟩, ⟨?_, fun i h1 h2 => ?_⟩, fun j hj => ?_, (q4.trans g2).trans f2, (q5.trans g3).trans f3, fun j h1 h2 h3 => ?_⟩
        · rw [q2 i h1 h2, e104]; exact f5 i (by omega)
        · rw [q3, g1]; exact hB.2.2.2.2.2.1.1
        · rw [q3, g1]; exact h119
        · rw [q3, g1]; exact hB.2.2.2.2.2.2.1.1
        · rw [q3, g1]; exact hB.2.2.2.2.2.2.1.2.2
        · rw [q3, g1]; exact h123
        · rw [q3, g1]; exact h124
        · rw [q3, g1]; exact f6
        · rw [q3, g1]; exact hB.2.2.2.2.2.2.2.1.1
        · rw [q6 143 (by decide) (by decide) (by decide), g4 143 (by decide) (by decide)]
          exact hB.2.2.2.2.2.2.2.1.2 i h1 h2
        · rw [q3, g1]; exact f1 j hj
        · have n104 : ¬ j = 104 := fun z => h1 (by rw [z]; decide)
          rw [q6 j n104 h2 h3, g4 j (fun z => h1 (by rw [z]; decide)) (fun z => h1 (by rw [z]; decide))]
          exact f4 j h1
      refine vX10_run_258 ⟨fun _ => ⟨fun _ => ⟨fun c => ?_, fun c => ?_⟩, fun c => absurd (by rw [h123]; decide) c⟩, fun c => absurd (by rw [h130]; decide) c⟩
      · cases x with
        | none => exact fin s2 rfl rfl rfl (fun _ _ _ => rfl) hsh
        | some k => exact absurd c (i32_nn k (by have := hx k rfl; omega))
      · cases x with
        | none => exact absurd (by decide) c
        | some k =>
          have hk8 := hx k rfl
          have e0 : (0 : Int32).toNatClampNeg = 0 := by decide
          show _ ∧ _
          rw [show xShf (some k) = nI k from rfl, e0, nI_clamp (n := k) (by omega)]
          refine ⟨inB_n (n := 0) (by decide), inB_n hk8, inB_n (n := 0) (by decide), inB_n hk8, fin _ rfl rfl rfl (fun i h1 h2 => ?_) (fun i hi => ?_)⟩
          · funext z
            rw [sA_ne _ _ (fun e => h2 e.1), sA_ne _ _ (fun e => h1 e.1)]
          · have e4 : (sA (sA s2 128 k (s2.2.2.1 106 0)) 129 k (s2.2.2.1 107 0)).2.2.1 104 = s2.2.2.1 104 := by
              funext z
              rw [sA_ne _ _ (fun e => absurd e.1 (by decide)), sA_ne _ _ (fun e => absurd e.1 (by decide))]
            rw [e4]
            show mVar _ _ _ _ (if i = k then some v else sh' i)
            by_cases e : i = k
            · subst e
              rw [if_pos rfl]
              have e8 : (sA (sA s2 128 i (s2.2.2.1 106 0)) 129 i (s2.2.2.1 107 0)).2.2.1 128 i = s2.2.2.1 106 0 := by
                rw [sA_ne _ _ (fun e => absurd e.1 (by decide))]; exact if_pos ⟨rfl, rfl⟩
              have e9 : (sA (sA s2 128 i (s2.2.2.1 106 0)) 129 i (s2.2.2.1 107 0)).2.2.1 129 i = s2.2.2.1 107 0 := if_pos ⟨rfl, rfl⟩
              rw [e8, e9]; exact ⟨hpv, wv⟩
            · rw [if_neg e, sA_ne _ _ (fun z => absurd z.1 (by decide)), sA_ne _ _ (fun z => e z.2), sA_ne _ _ (fun z => e z.2), sA_ne _ _ (fun z => absurd z.1 (by decide))]
              exact hsh i hi
    · exact absurd rfl n0
  · obtain ⟨pc, pl, fr, wy, sh', ct, out, tr⟩ := σ'
    have hne : ¬ tr.1 = 0 := hne
    rcases hR2 with ⟨e, _⟩ | ⟨b, hB, hP, h105, h119, hb, h123, n0, h12, h124, h122⟩
    · rw [e] at hne; exact absurd rfl hne
    · obtain ⟨f1, f2, f3, f4, f5, f6⟩ := mfR.fin hB.2.2.2.2.2.2.2.2.2
      have hres := htr pc pl fr wy sh' ct out tr rfl hne s2 ⟨fun k hk => (hsl k hk).eq (fun i h1 h2 => f5 i (by omega)), fun i h1 h2 => f5 i (by omega), ⟨hB.2.2.2.2.2.1.1, h119, hB.2.2.2.2.2.2.1.1, hB.2.2.2.2.2.2.1.2.2⟩, ⟨h123, h124, h122, f6⟩, hB.2.2.2.2.2.2.2.1, f1, f2, f3, fun j h1 _ _ => f4 j h1⟩
      have n0' : ¬ nI tr.1 ≤ 0 := by
        rw [show (0 : Int32) = nI 0 from rfl, Int32.le_iff_toInt_le, nI_toInt (by omega), nI_toInt (by decide)]; omega
      have n1' : ¬ nI tr.1 = 0 := by
        rw [show (0 : Int32) = nI 0 from rfl, nI_eq (by omega) (by decide)]; omega
      refine vX10_run_258 ?_
      rw [h123]
      exact ⟨fun _ => ⟨fun c => absurd c n0', fun _ => hres⟩, fun _ => ⟨fun _ => ⟨fun c => absurd c n0', fun _ => hres⟩, fun c => absurd c n1'⟩⟩
end MRu
