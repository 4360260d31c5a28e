/-! THE MODEL: built-ins -/
theorem su_0 : ∀ m, m < 4 → (zsuit 0 0 m m = true ↔ m = 0) := by decide
theorem su_1 : ∀ m, m < 4 → (zsuit 1 0 m m = true ↔ m = 0) := by decide
theorem su_2 : ∀ m, m < 4 → (zsuit 2 0 m m = true ↔ m = 0) := by decide
theorem su_4 : ∀ m, m < 4 → (zsuit 4 0 m m = true ↔ m = 1) := by decide
theorem su_6 : ∀ m, m < 4 → (zsuit 6 0 m m = true ↔ m ≠ 0) := by decide
theorem su_7 : ∀ m, m < 4 → (zsuit 7 0 m m = true ↔ m = 2) := by decide
theorem su_8 : ∀ m, m < 4 → (zsuit 8 0 m m = true ↔ True) := by decide
theorem su_9 : ∀ m, m < 4 → (zsuit 9 0 m m = true ↔ m < 3) := by decide
theorem su_10 : ∀ m, m < 4 → (zsuit 10 0 m m = true ↔ m = 1 ∨ m = 2) := by decide
theorem su_11 : ∀ m, m < 4 → (zsuit 11 0 m m = true ↔ m = 1 ∨ m = 2) := by decide
theorem su_12 : ∀ m, m < 4 → (zsuit 12 0 m m = true ↔ m = 1 ∨ m = 2) := by decide
theorem su_13 : ∀ m, m < 4 → (zsuit 13 0 m m = true ↔ m = 1 ∨ m = 2) := by decide
theorem su_14 : ∀ m, m < 4 → (zsuit 14 0 m m = true ↔ m = 1) := by decide
theorem su_15 : ∀ m, m < 4 → (zsuit 15 0 m m = true ↔ m ≠ 0) := by decide
theorem su_16 : ∀ m, m < 4 → (zsuit 16 0 m m = true ↔ 1 < m) := by decide
theorem su_17 : ∀ m, m < 4 → (zsuit 17 0 m m = true ↔ m = 2) := by decide
theorem su_18 : ∀ m, m < 4 → (zsuit 18 0 m m = true ↔ m = 1) := by decide
theorem su_3 : ∀ m, m < 4 → ∀ u, u < 4 → ((zsuit 3 0 m m && zsuit 3 1 u m) = true ↔ m = 0 ∧ u = 0) := by decide
theorem su_19 : ∀ m, m < 4 → ∀ u, u < 4 → ((zsuit 19 0 m m && zsuit 19 1 u m) = true ↔ m = 3 ∨ u = 3 ∨ ((m = 2 → u ≠ 0) ∧ (u = 2 → m ≠ 0))) := by decide
theorem su_20 : ∀ m, m < 4 → ∀ u, u < 4 → ((zsuit 20 0 m m && zsuit 20 1 u m) = true ↔ m = 0 ∧ u ≠ 0) := by decide
theorem su_21 : ∀ m, m < 4 → ∀ u, u < 4 → ((zsuit 21 0 m m && zsuit 21 1 u m) = true ↔ m = 0 ∧ u ≠ 0) := by decide
theorem su_22 : ∀ m, m < 4 → ∀ u, u < 4 → ((zsuit 22 0 m m && zsuit 22 1 u m) = true ↔ m = 1 ∧ u = 1) := by decide
theorem su_23 : ∀ m, m < 4 → ∀ u, u < 4 → ((zsuit 23 0 m m && zsuit 23 1 u m) = true ↔ m ≠ 0 ∧ u = 1) := by decide
theorem su_24 : ∀ m, m < 4 → ∀ u, u < 4 → ((zsuit 24 0 m m && zsuit 24 1 u m) = true ↔ m = 1 ∧ u < 2) := by decide
theorem su_25 : ∀ m, m < 4 → ∀ u, u < 4 → ((zsuit 25 0 m m && zsuit 25 1 u m) = true ↔ m = 2 ∧ u = 0) := by decide
theorem su_26 : ∀ m, m < 4 → ∀ u, u < 4 → ((zsuit 26 0 m m && zsuit 26 1 u m) = true ↔ m = 1 ∧ u = 1) := by decide
theorem su_27 : ∀ m, m < 4 → ∀ u, u < 4 → ((zsuit 27 0 m m && zsuit 27 1 u m) = true ↔ True) := by decide
def zsu (k : Nat) (args : List Th) (i : Nat) : Bool := (List.range i).all (fun j => zsuit k j (zk (args.getD j (zI 0))) (zk (args.getD 0 (zI 0))))
theorem zsu_succ (k : Nat) (args : List Th) (i : Nat) : zsu k args (i + 1) = (zsu k args i && zsuit k i (zk (args.getD i (zI 0))) (zk (args.getD 0 (zI 0)))) := by
  unfold zsu
  rw [List.range_succ, List.all_append]; simp
section MBI
variable {l : Launch} {E : EN} {w : MO} {d : Nat} {s s0 : MS} {Q : Option Value → MS → Prop} {b n md b1 : Nat}
theorem M_biCore (hst : l.stackTraces = false) {args : List Th} {k : Nat} (hk : k < 28) (hi : MOk b n md args s) (hal : args.length ≤ 6) (hbad : zsu k args args.length = false → ∀ s', mop b n md (.inl 3) s s' → Q none s')
    (h5 : zsu k args args.length = true → k = 5 → EvM l E w (d + 5) MX10_builds [.ref w.1, .int 3, .int (nI n)] s (fun r s1 => r = none ∧ Q none s1))
    (hm : zsu k args args.length = true → k < 5 → EvM l E w (d + 5) MX10_makes [.ref w.1, .int (nI k), .int (s.2.2.1 107 n), .int (s.2.2.1 107 (n + 1)), .int (nI n)] s (fun r s1 => r = none ∧ Q none s1))
    (ho : zsu k args args.length = true → 6 ≤ k → k < 16 → EvM l E w (d + 5) MX10_ofOneThing [.ref w.1, .int (nI k), .int (s.2.2.1 107 n), .int (nI n)] s (fun r s1 => r = none ∧ Q none s1))
    (hs : zsu k args args.length = true → 16 ≤ k → k < 19 → EvM l E w (d + 5) MX10_shapes [.ref w.1, .int (nI k), .int (s.2.2.1 107 n), .int (nI n)] s (fun r s1 => r = none ∧ Q none s1))
    (h2 : zsu k args args.length = true → 19 ≤ k → EvM l E w (d + 5) MX10_ofTwo [.ref w.1, .int (nI k), .int (s.2.2.1 107 n), .int (s.2.2.1 107 (n + 1)), .int (nI n)] s (fun r s1 => r = none ∧ Q none s1)) : EvM l E w (d + 6) MX10_builtIn [.ref w.1, .int (nI k), .int (nI n)] s Q := by
  have ha0 := hi.acc0
  have hC := hi.ctx
  have hn := hC.2.1
  have hb := hC.1
  have hsp := ha0.sp
  refine eX10_builtIn hst ?_
  have main : ∀ m i, i + m = args.length → ExM l E w (d + 6) MX10_builtIn 5 [some (.ref w.1), some (.int (nI k)), some (.int (nI n)), some (.int (fl (zsu k args i))), some (.int (nI (n + i))), none] [] s Q := by
    intro m
    induction m with
    | zero =>
      intro i hi'
      have hi' : i = args.length := hi'
      subst hi'
      refine vX10_builtIn_5 ?_
      rw [hsp]
      refine pk_le _ _ (fun _ => ?_) (fun c => by omega) rfl rfl
      cases e : zsu k args args.length with
      | false => exact ⟨fun c => absurd rfl c, fun _ => K_tr hst hC ha0 (by omega) 3 rfl (hbad e)⟩
      | true =>
        refine ⟨fun _ => ⟨inB_n (by omega), fun y1 e1 => ?_⟩, fun c => absurd c (by decide)⟩
        rw [nI_clamp (by omega)] at e1
        subst e1
        rw [nI_1, nI_clamp (by omega)]
        refine ⟨inB_n (by omega), fun y2 e2 => ?_⟩
        subst e2
        refine bn_eq k 5 (fun c => pk_le 5 k (fun c1 => pk_le 16 k (fun c2 => pk_le 19 k (fun c3 => h2 e c3) (fun c3 => hs e c2 c3) rfl rfl) (fun c2 => ho e (by omega) c2) rfl rfl) (fun c1 => hm e c1) rfl rfl) (fun c => h5 e c) rfl rfl
    | succ m ih =>
      intro i hi'
      have nx := ih (i + 1) (by omega)
      rw [zsu_succ] at nx
      have hx := hi.1.2.2.2.2 i (by omega)
      have hf := hi.1.2.2.2.2 0 (by omega)
      refine vX10_builtIn_5 ?_
      rw [hsp]
      refine pk_le _ _ (fun c => by omega) (fun _ => ?_) rfl rfl
      have e3 : nI (n + i) + 1 = nI (n + (i + 1)) := nI_1 _
      rw [e3]
      cases e : zsu k args i with
      | false =>
        rw [e, Bool.false_and] at nx
        exact ⟨fun _ => nx, fun c => absurd rfl c⟩
      | true =>
        rw [e, Bool.true_and] at nx
        refine ⟨fun c => absurd c (by decide), fun _ => M_kindAt hst hx (by omega) (by omega) ⟨_, rfl, M_kindAt hst hf (by omega) (by omega) ⟨_, rfl, ?_⟩⟩⟩
        rw [pk_sub (by omega), Nat.add_sub_cancel_left]
        have k1 := zk_le (args.getD i (zI 0))
        have k2 := zk_le (args.getD 0 (zI 0))
        refine M_suits hst (by omega) (by omega) (by omega) (by omega) ⟨_, rfl, ?_⟩
        cases e2 : zsuit k i (zk (args.getD i (zI 0))) (zk (args.getD 0 (zI 0))) with
        | true => rw [e2] at nx; exact ⟨fun c => absurd c (by decide), fun _ => nx⟩
        | false => rw [e2] at nx; exact ⟨fun _ => nx, fun c => absurd rfl c⟩
  exact main args.length 0 (by omega)
/-- the EMPTY row -/
def mEm (b : Nat) (s : MS) : Prop := 154242 ≤ b ∧ s.2.2.1 104 154240 = 1 ∧ s.2.2.1 104 154241 = 0
theorem M_bi1 (hst : l.stackTraces = false) {x : Th} {k : Nat} {P : Prop} (hk : k < 28) (hi : MOk b n md [x] s) (hP : zsuit k 0 (zk x) (zk x) = true ↔ P) (hQ : ∀ s', mop b n md (zbi1 k x) s s' → Q none s') (hbad : ¬ P → zbi1 k x = .inl 3)
    (hm : P → k < 5 → EvM l E w (d + 5) MX10_makes [.ref w.1, .int (nI k), .int (s.2.2.1 107 n), .int (s.2.2.1 107 (n + 1)), .int (nI n)] s (fun r s1 => r = none ∧ Q none s1))
    (ho : P → 6 ≤ k → k < 16 → EvM l E w (d + 5) MX10_ofOneThing [.ref w.1, .int (nI k), .int (s.2.2.1 107 n), .int (nI n)] s (fun r s1 => r = none ∧ Q none s1))
    (hs : P → 16 ≤ k → k < 19 → EvM l E w (d + 5) MX10_shapes [.ref w.1, .int (nI k), .int (s.2.2.1 107 n), .int (nI n)] s (fun r s1 => r = none ∧ Q none s1)) (h5 : k ≠ 5) (h19 : k < 19) : EvM l E w (d + 6) MX10_builtIn [.ref w.1, .int (nI k), .int (nI n)] s Q := by
  have hsu : zsu k [x] 1 = zsuit k 0 (zk x) (zk x) := by
    rw [zsu_succ]; rfl
  rw [← hsu] at hP
  refine M_biCore hst hk hi (by show 1 ≤ 6; decide) (fun e => ?_) (fun _ c => absurd c h5) (fun e c => hm (hP.mp e) c) (fun e c1 c2 => ho (hP.mp e) c1 c2) (fun e c1 c2 => hs (hP.mp e) c1 c2) (fun _ c => by omega)
  rw [hbad (fun h => Bool.false_ne_true (e.symm.trans (hP.mpr h)))] at hQ
  exact hQ
theorem M_bi2 (hst : l.stackTraces = false) {x y : Th} {k : Nat} {P : Prop} (hk : k < 28) (hi : MOk b n md [x, y] s) (hP : (zsuit k 0 (zk x) (zk x) && zsuit k 1 (zk y) (zk x)) = true ↔ P) (hQ : ∀ s', mop b n md (zbi2 k x y) s s' → Q none s') (hbad : ¬ P → zbi2 k x y = .inl 3)
    (hm : P → k < 5 → EvM l E w (d + 5) MX10_makes [.ref w.1, .int (nI k), .int (s.2.2.1 107 n), .int (s.2.2.1 107 (n + 1)), .int (nI n)] s (fun r s1 => r = none ∧ Q none s1))
    (h2 : P → 19 ≤ k → EvM l E w (d + 5) MX10_ofTwo [.ref w.1, .int (nI k), .int (s.2.2.1 107 n), .int (s.2.2.1 107 (n + 1)), .int (nI n)] s (fun r s1 => r = none ∧ Q none s1)) (h5 : k = 3 ∨ 19 ≤ k) : EvM l E w (d + 6) MX10_builtIn [.ref w.1, .int (nI k), .int (nI n)] s Q := by
  have hsu : zsu k [x, y] 2 = (zsuit k 0 (zk x) (zk x) && zsuit k 1 (zk y) (zk x)) := by
    rw [zsu_succ, zsu_succ]; rfl
  rw [← hsu] at hP
  refine M_biCore hst hk hi (by show 2 ≤ 6; decide) (fun e => ?_) (fun _ c => by omega) (fun e c => hm (hP.mp e) c) (fun e c1 c2 => by omega) (fun e c1 c2 => by omega) (fun e c => h2 (hP.mp e) c)
  rw [hbad (fun h => Bool.false_ne_true (e.symm.trans (hP.mpr h)))] at hQ
  exact hQ
theorem M_b0 (hst : l.stackTraces = false) {x : Th} (hi : MOk b n md [x] s) (hQ : ∀ s', mop b n md (zbi1 0 x) s s' → Q none s') : EvM l E w (d + 6) MX10_builtIn [.ref w.1, .int (nI 0), .int (nI n)] s Q := by
  have kx := zk_le x
  obtain ⟨m4, hx, wx⟩ := hi.one
  refine M_bi1 hst (k := 0) (by decide) hi (su_0 (zk x) (by omega)) hQ (fun h => ?_) (fun h _ => by
    have hv : s.2.2.1 107 n = zv x := by rw [zk0 h] at hx; exact (rmV.int hx).2
    rw [hv]
    exact M_makes0 hst hi h (by decide) (fun s' q => ⟨rfl, hQ s' q⟩)) (fun _ c => absurd c (by decide)) (fun _ c => absurd c (by decide)) (by decide) (by decide)
  · rw [zbi1_0, if_pos h]
theorem M_b1 (hst : l.stackTraces = false) {x : Th} (hi : MOk b n md [x] s) (hQ : ∀ s', mop b n md (zbi1 1 x) s s' → Q none s') : EvM l E w (d + 6) MX10_builtIn [.ref w.1, .int (nI 1), .int (nI n)] s Q := by
  have kx := zk_le x
  obtain ⟨m4, hx, wx⟩ := hi.one
  refine M_bi1 hst (k := 1) (by decide) hi (su_1 (zk x) (by omega)) hQ (fun h => ?_) (fun h _ => by
    have hv : s.2.2.1 107 n = zv x := by rw [zk0 h] at hx; exact (rmV.int hx).2
    rw [hv]
    exact M_makes0 hst hi h (by decide) (fun s' q => ⟨rfl, hQ s' q⟩)) (fun _ c => absurd c (by decide)) (fun _ c => absurd c (by decide)) (by decide) (by decide)
  · rw [zbi1_1, if_pos h]
theorem M_b2 (hst : l.stackTraces = false) {x : Th} (hi : MOk b n md [x] s) (hQ : ∀ s', mop b n md (zbi1 2 x) s s' → Q none s') : EvM l E w (d + 6) MX10_builtIn [.ref w.1, .int (nI 2), .int (nI n)] s Q := by
  have kx := zk_le x
  obtain ⟨m4, hx, wx⟩ := hi.one
  refine M_bi1 hst (k := 2) (by decide) hi (su_2 (zk x) (by omega)) hQ (fun h => ?_) (fun h _ => by
    have hv : s.2.2.1 107 n = zv x := by rw [zk0 h] at hx; exact (rmV.int hx).2
    rw [hv]
    exact M_makes0 hst hi h (by decide) (fun s' q => ⟨rfl, hQ s' q⟩)) (fun _ c => absurd c (by decide)) (fun _ c => absurd c (by decide)) (by decide) (by decide)
  · rw [zbi1_2, if_pos h]
theorem M_b4 (hst : l.stackTraces = false) {x : Th} (hi : MOk b n md [x] s) (hQ : ∀ s', mop b n md (zbi1 4 x) s s' → Q none s') : EvM l E w (d + 6) MX10_builtIn [.ref w.1, .int (nI 4), .int (nI n)] s Q := by
  have kx := zk_le x
  obtain ⟨m4, hx, wx⟩ := hi.one
  refine M_bi1 hst (k := 4) (by decide) hi (su_4 (zk x) (by omega)) hQ (fun h => ?_) (fun h _ => M_makes4 hst hi rfl h (fun s' q => ⟨rfl, hQ s' q⟩)) (fun _ c => absurd c (by decide)) (fun _ c => absurd c (by decide)) (by decide) (by decide)
  · rw [zbi1_4, if_pos h]
theorem M_b6 (hst : l.stackTraces = false) {x : Th} (hi : MOk b n md [x] s) (hQ : ∀ s', mop b n md (zbi1 6 x) s s' → Q none s') : EvM l E w (d + 6) MX10_builtIn [.ref w.1, .int (nI 6), .int (nI n)] s Q := by
  have kx := zk_le x
  obtain ⟨m4, hx, wx⟩ := hi.one
  refine M_bi1 hst (k := 6) (by decide) hi (su_6 (zk x) (by omega)) hQ (fun h => ?_) (fun _ c => absurd c (by decide)) (fun h _ _ => M_ofOneThing hst hi rfl (by decide) ⟨fun _ => h, fun c => absurd c (by decide), fun c => absurd c (by decide), fun c => absurd c (by decide), fun c => absurd c (by decide), fun c => absurd c (by decide)⟩ (fun s' q => ⟨rfl, hQ s' q⟩)) (fun _ c => absurd c (by decide)) (by decide) (by decide)
  · rw [zbi1_6, if_pos (Decidable.not_not.mp h)]
theorem M_b7 (hst : l.stackTraces = false) {x : Th} (hi : MOk b n md [x] s) (hQ : ∀ s', mop b n md (zbi1 7 x) s s' → Q none s') : EvM l E w (d + 6) MX10_builtIn [.ref w.1, .int (nI 7), .int (nI n)] s Q := by
  have kx := zk_le x
  obtain ⟨m4, hx, wx⟩ := hi.one
  refine M_bi1 hst (k := 7) (by decide) hi (su_7 (zk x) (by omega)) hQ (fun h => ?_) (fun _ c => absurd c (by decide)) (fun h _ _ => M_ofOneThing hst hi rfl (by decide) ⟨fun c => absurd c (by decide), fun _ => h, fun c => absurd c (by decide), fun c => absurd c (by decide), fun c => absurd c (by decide), fun c => absurd c (by decide)⟩ (fun s' q => ⟨rfl, hQ s' q⟩)) (fun _ c => absurd c (by decide)) (by decide) (by decide)
  · rw [zbi1_7, if_pos h]
theorem M_b8 (hst : l.stackTraces = false) {x : Th} (hi : MOk b n md [x] s) (hQ : ∀ s', mop b n md (zbi1 8 x) s s' → Q none s') : EvM l E w (d + 6) MX10_builtIn [.ref w.1, .int (nI 8), .int (nI n)] s Q := by
  have kx := zk_le x
  obtain ⟨m4, hx, wx⟩ := hi.one
  refine M_bi1 hst (k := 8) (by decide) hi (su_8 (zk x) (by omega)) hQ (fun h => ?_) (fun _ c => absurd c (by decide)) (fun h _ _ => M_ofOneThing hst hi rfl (by decide) ⟨fun c => absurd c (by decide), fun c => absurd c (by decide), fun c => absurd c (by decide), fun c => absurd c (by decide), fun c => absurd c (by decide), fun c => absurd c (by decide)⟩ (fun s' q => ⟨rfl, hQ s' q⟩)) (fun _ c => absurd c (by decide)) (by decide) (by decide)
  · exact absurd trivial h
theorem M_b9 (hst : l.stackTraces = false) {x : Th} (hi : MOk b n md [x] s) (hQ : ∀ s', mop b n md (zbi1 9 x) s s' → Q none s') : EvM l E w (d + 6) MX10_builtIn [.ref w.1, .int (nI 9), .int (nI n)] s Q := by
  have kx := zk_le x
  obtain ⟨m4, hx, wx⟩ := hi.one
  refine M_bi1 hst (k := 9) (by decide) hi (su_9 (zk x) (by omega)) hQ (fun h => ?_) (fun _ c => absurd c (by decide)) (fun h _ _ => M_ofOneThing hst hi rfl (by decide) ⟨fun c => absurd c (by decide), fun c => absurd c (by decide), fun _ => h, fun c => absurd c (by decide), fun c => absurd c (by decide), fun c => absurd c (by decide)⟩ (fun s' q => ⟨rfl, hQ s' q⟩)) (fun _ c => absurd c (by decide)) (by decide) (by decide)
  · exact (zbi1_9 x).2.2.2 (by omega)
theorem M_b10 (hst : l.stackTraces = false) {x : Th} (hi : MOk b n md [x] s) (hQ : ∀ s', mop b n md (zbi1 10 x) s s' → Q none s') : EvM l E w (d + 6) MX10_builtIn [.ref w.1, .int (nI 10), .int (nI n)] s Q := by
  have kx := zk_le x
  obtain ⟨m4, hx, wx⟩ := hi.one
  refine M_bi1 hst (k := 10) (by decide) hi (su_10 (zk x) (by omega)) hQ (fun h => ?_) (fun _ c => absurd c (by decide)) (fun h _ _ => M_ofOneThing hst hi rfl (by decide) ⟨fun c => absurd c (by decide), fun c => absurd c (by decide), fun c => absurd c (by decide), fun _ => h, fun c => absurd c (by decide), fun c => absurd c (by decide)⟩ (fun s' q => ⟨rfl, hQ s' q⟩)) (fun _ c => absurd c (by decide)) (by decide) (by decide)
  · rcases zk_c x with e | e | e | e
    · exact (zbi1_10 x).1 e
    · omega
    · omega
    · exact (zbi1_10 x).2.2.2 e
theorem M_b11 (hst : l.stackTraces = false) {x : Th} (hi : MOk b n md [x] s) (hQ : ∀ s', mop b n md (zbi1 11 x) s s' → Q none s') : EvM l E w (d + 6) MX10_builtIn [.ref w.1, .int (nI 11), .int (nI n)] s Q := by
  have kx := zk_le x
  obtain ⟨m4, hx, wx⟩ := hi.one
  refine M_bi1 hst (k := 11) (by decide) hi (su_11 (zk x) (by omega)) hQ (fun h => ?_) (fun _ c => absurd c (by decide)) (fun h _ _ => M_ofOneThing hst hi rfl (by decide) ⟨fun c => absurd c (by decide), fun c => absurd c (by decide), fun c => absurd c (by decide), fun _ => h, fun c => absurd c (by decide), fun c => absurd c (by decide)⟩ (fun s' q => ⟨rfl, hQ s' q⟩)) (fun _ c => absurd c (by decide)) (by decide) (by decide)
  · rcases zk_c x with e | e | e | e
    · exact (zbi1_11 x).1 e
    · omega
    · omega
    · exact (zbi1_11 x).2.2.2 e
theorem M_b12 (hst : l.stackTraces = false) {x : Th} (hi : MOk b n md [x] s) (hQ : ∀ s', mop b n md (zbi1 12 x) s s' → Q none s') : EvM l E w (d + 6) MX10_builtIn [.ref w.1, .int (nI 12), .int (nI n)] s Q := by
  have kx := zk_le x
  obtain ⟨m4, hx, wx⟩ := hi.one
  refine M_bi1 hst (k := 12) (by decide) hi (su_12 (zk x) (by omega)) hQ (fun h => ?_) (fun _ c => absurd c (by decide)) (fun h _ _ => M_ofOneThing hst hi rfl (by decide) ⟨fun c => absurd c (by decide), fun c => absurd c (by decide), fun c => absurd c (by decide), fun _ => h, fun c => absurd c (by decide), fun c => absurd c (by decide)⟩ (fun s' q => ⟨rfl, hQ s' q⟩)) (fun _ c => absurd c (by decide)) (by decide) (by decide)
  · rw [zbi1_12, if_neg (fun z => h (Or.inl z)), if_neg (fun z => h (Or.inr z))]
theorem M_b13 (hst : l.stackTraces = false) {x : Th} (hi : MOk b n md [x] s) (hQ : ∀ s', mop b n md (zbi1 13 x) s s' → Q none s') : EvM l E w (d + 6) MX10_builtIn [.ref w.1, .int (nI 13), .int (nI n)] s Q := by
  have kx := zk_le x
  obtain ⟨m4, hx, wx⟩ := hi.one
  refine M_bi1 hst (k := 13) (by decide) hi (su_13 (zk x) (by omega)) hQ (fun h => ?_) (fun _ c => absurd c (by decide)) (fun h _ _ => M_ofOneThing hst hi rfl (by decide) ⟨fun c => absurd c (by decide), fun c => absurd c (by decide), fun c => absurd c (by decide), fun _ => h, fun c => absurd c (by decide), fun c => absurd c (by decide)⟩ (fun s' q => ⟨rfl, hQ s' q⟩)) (fun _ c => absurd c (by decide)) (by decide) (by decide)
  · rw [zbi1_13, if_neg (fun z => h (Or.inl z)), if_neg (fun z => h (Or.inr z))]
theorem M_b14 (hst : l.stackTraces = false) {x : Th} (hi : MOk b n md [x] s) (hQ : ∀ s', mop b n md (zbi1 14 x) s s' → Q none s') : EvM l E w (d + 6) MX10_builtIn [.ref w.1, .int (nI 14), .int (nI n)] s Q := by
  have kx := zk_le x
  obtain ⟨m4, hx, wx⟩ := hi.one
  refine M_bi1 hst (k := 14) (by decide) hi (su_14 (zk x) (by omega)) hQ (fun h => ?_) (fun _ c => absurd c (by decide)) (fun h _ _ => M_ofOneThing hst hi rfl (by decide) ⟨fun c => absurd c (by decide), fun c => absurd c (by decide), fun c => absurd c (by decide), fun c => absurd c (by decide), fun _ => h, fun c => absurd c (by decide)⟩ (fun s' q => ⟨rfl, hQ s' q⟩)) (fun _ c => absurd c (by decide)) (by decide) (by decide)
  · rw [zbi1_14, if_neg h]
theorem M_b15 (hst : l.stackTraces = false) {x : Th} (hi : MOk b n md [x] s) (hQ : ∀ s', mop b n md (zbi1 15 x) s s' → Q none s') : EvM l E w (d + 6) MX10_builtIn [.ref w.1, .int (nI 15), .int (nI n)] s Q := by
  have kx := zk_le x
  obtain ⟨m4, hx, wx⟩ := hi.one
  refine M_bi1 hst (k := 15) (by decide) hi (su_15 (zk x) (by omega)) hQ (fun h => ?_) (fun _ c => absurd c (by decide)) (fun h _ _ => M_ofOneThing hst hi rfl (by decide) ⟨fun c => absurd c (by decide), fun c => absurd c (by decide), fun c => absurd c (by decide), fun c => absurd c (by decide), fun c => absurd c (by decide), fun _ => h⟩ (fun s' q => ⟨rfl, hQ s' q⟩)) (fun _ c => absurd c (by decide)) (by decide) (by decide)
  · rw [zbi1_15, if_pos (Decidable.not_not.mp h)]
theorem M_b16 (hst : l.stackTraces = false) {x : Th} (hi : MOk b n md [x] s) (hQ : ∀ s', mop b n md (zbi1 16 x) s s' → Q none s') : EvM l E w (d + 6) MX10_builtIn [.ref w.1, .int (nI 16), .int (nI n)] s Q := by
  have kx := zk_le x
  obtain ⟨m4, hx, wx⟩ := hi.one
  refine M_bi1 hst (k := 16) (by decide) hi (su_16 (zk x) (by omega)) hQ (fun h => ?_) (fun _ c => absurd c (by decide)) (fun _ _ c => absurd c (by decide)) (fun h _ _ => M_flat hst hi rfl (by omega) (fun s' q => ⟨rfl, hQ s' q⟩)) (by decide) (by decide)
  · refine (zbi1_16 x).1 ?_
    unfold zflat
    rw [if_neg (by omega), if_neg (by omega)]
theorem M_b17 (hst : l.stackTraces = false) {x : Th} (hi : MOk b n md [x] s) (hQ : ∀ s', mop b n md (zbi1 17 x) s s' → Q none s') : EvM l E w (d + 6) MX10_builtIn [.ref w.1, .int (nI 17), .int (nI n)] s Q := by
  have kx := zk_le x
  obtain ⟨m4, hx, wx⟩ := hi.one
  refine M_bi1 hst (k := 17) (by decide) hi (su_17 (zk x) (by omega)) hQ (fun h => ?_) (fun _ c => absurd c (by decide)) (fun _ _ c => absurd c (by decide)) (fun h _ _ => M_turn hst hi rfl h (fun s' q => ⟨rfl, hQ s' q⟩)) (by decide) (by decide)
  · rw [zbi1_17, if_pos h]
theorem M_b18 (hst : l.stackTraces = false) {x : Th} (hi : MOk b n md [x] s) (hQ : ∀ s', mop b n md (zbi1 18 x) s s' → Q none s') : EvM l E w (d + 6) MX10_builtIn [.ref w.1, .int (nI 18), .int (nI n)] s Q := by
  have kx := zk_le x
  obtain ⟨m4, hx, wx⟩ := hi.one
  refine M_bi1 hst (k := 18) (by decide) hi (su_18 (zk x) (by omega)) hQ (fun h => ?_) (fun _ c => absurd c (by decide)) (fun _ _ c => absurd c (by decide)) (fun h _ _ => M_group hst hi rfl h (fun s' q => ⟨rfl, hQ s' q⟩)) (by decide) (by decide)
  · rw [zbi1_18, if_pos h]
theorem M_b3 (hst : l.stackTraces = false) {x y : Th} (hi : MOk b n md [x, y] s) (hE : mEm b s) (hQ : ∀ s', mop b n md (zbi2 3 x y) s s' → Q none s') : EvM l E w (d + 6) MX10_builtIn [.ref w.1, .int (nI 3), .int (nI n)] s Q := by
  have kx := zk_le x
  have ky := zk_le y
  obtain ⟨m4, hx, hy, wx, wy⟩ := hi.two
  refine M_bi2 hst (k := 3) (by decide) hi (su_3 (zk x) (by omega) (zk y) (by omega)) hQ (fun h => ?_) (fun h _ => by
    have hv : s.2.2.1 107 n = zv x := by rw [zk0 h.1] at hx; exact (rmV.int hx).2
    rw [hv]
    have hv2 : s.2.2.1 107 (n + 1) = zv y := by rw [zk0 h.2] at hy; exact (rmV.int hy).2
    rw [hv2]
    exact M_makes3 hst hi h.1 h.2 (fun s' q => ⟨rfl, hQ s' q⟩)) (fun _ c => absurd c (by decide)) (by decide)
  · rw [zbi2_3, if_pos (by omega)]
theorem M_b19 (hst : l.stackTraces = false) {x y : Th} (hi : MOk b n md [x, y] s) (hE : mEm b s) (hQ : ∀ s', mop b n md (zbi2 19 x y) s s' → Q none s') : EvM l E w (d + 6) MX10_builtIn [.ref w.1, .int (nI 19), .int (nI n)] s Q := by
  have kx := zk_le x
  have ky := zk_le y
  obtain ⟨m4, hx, hy, wx, wy⟩ := hi.two
  refine M_bi2 hst (k := 19) (by decide) hi (su_19 (zk x) (by omega) (zk y) (by omega)) hQ (fun h => ?_) (fun _ c => absurd c (by decide)) (fun h _ => eX10_ofTwo hst ⟨fun _ => M_join hst hi rfl rfl h (fun s' q => ⟨rfl, rfl, hQ s' q⟩), fun c => absurd rfl c⟩) (by decide)
  · rw [zbi2_19]
    unfold zjoin
    rw [if_neg (by omega), if_pos (by omega), if_pos (by omega)]
theorem M_b20 (hst : l.stackTraces = false) {x y : Th} (hi : MOk b n md [x, y] s) (hE : mEm b s) (hQ : ∀ s', mop b n md (zbi2 20 x y) s s' → Q none s') : EvM l E w (d + 6) MX10_builtIn [.ref w.1, .int (nI 20), .int (nI n)] s Q := by
  have kx := zk_le x
  have ky := zk_le y
  obtain ⟨m4, hx, hy, wx, wy⟩ := hi.two
  refine M_bi2 hst (k := 20) (by decide) hi (su_20 (zk x) (by omega) (zk y) (by omega)) hQ (fun h => ?_) (fun _ c => absurd c (by decide)) (fun h _ => by
    have hv : s.2.2.1 107 n = zv x := by rw [zk0 h.1] at hx; exact (rmV.int hx).2
    rw [hv]
    exact eX10_ofTwo hst ⟨fun c => absurd c (by decide), fun _ => ⟨fun _ => M_take hst hi rfl h.1 h.2 hE (fun s' q => ⟨rfl, rfl, hQ s' q⟩), fun c => absurd (Or.inl rfl) c⟩⟩) (by decide)
  · rw [zbi2_20, if_pos (by omega)]
theorem M_b21 (hst : l.stackTraces = false) {x y : Th} (hi : MOk b n md [x, y] s) (hE : mEm b s) (hQ : ∀ s', mop b n md (zbi2 21 x y) s s' → Q none s') : EvM l E w (d + 6) MX10_builtIn [.ref w.1, .int (nI 21), .int (nI n)] s Q := by
  have kx := zk_le x
  have ky := zk_le y
  obtain ⟨m4, hx, hy, wx, wy⟩ := hi.two
  refine M_bi2 hst (k := 21) (by decide) hi (su_21 (zk x) (by omega) (zk y) (by omega)) hQ (fun h => ?_) (fun _ c => absurd c (by decide)) (fun h _ => by
    have hv : s.2.2.1 107 n = zv x := by rw [zk0 h.1] at hx; exact (rmV.int hx).2
    rw [hv]
    exact eX10_ofTwo hst ⟨fun c => absurd c (by decide), fun _ => ⟨fun _ => M_drop hst hi rfl h.1 h.2 (fun s' q => ⟨rfl, rfl, hQ s' q⟩), fun c => absurd (Or.inr rfl) c⟩⟩) (by decide)
  · rw [zbi2_21, if_pos (by omega)]
theorem M_b22 (hst : l.stackTraces = false) {x y : Th} (hi : MOk b n md [x, y] s) (hE : mEm b s) (hQ : ∀ s', mop b n md (zbi2 22 x y) s s' → Q none s') : EvM l E w (d + 6) MX10_builtIn [.ref w.1, .int (nI 22), .int (nI n)] s Q := by
  have kx := zk_le x
  have ky := zk_le y
  obtain ⟨m4, hx, hy, wx, wy⟩ := hi.two
  refine M_bi2 hst (k := 22) (by decide) hi (su_22 (zk x) (by omega) (zk y) (by omega)) hQ (fun h => ?_) (fun _ c => absurd c (by decide)) (fun h _ => eX10_ofTwo hst ⟨fun c => absurd c (by decide), fun _ => ⟨fun c => absurd c (by decide), fun _ => ⟨fun _ => M_cut hst hi rfl rfl h.1 h.2 (fun s' q => ⟨rfl, rfl, hQ s' q⟩), fun c => absurd rfl c⟩⟩⟩) (by decide)
  · rw [zbi2_22, if_pos (by omega)]
theorem M_b23 (hst : l.stackTraces = false) {x y : Th} (hi : MOk b n md [x, y] s) (hE : mEm b s) (hQ : ∀ s', mop b n md (zbi2 23 x y) s s' → Q none s') : EvM l E w (d + 6) MX10_builtIn [.ref w.1, .int (nI 23), .int (nI n)] s Q := by
  have kx := zk_le x
  have ky := zk_le y
  obtain ⟨m4, hx, hy, wx, wy⟩ := hi.two
  refine M_bi2 hst (k := 23) (by decide) hi (su_23 (zk x) (by omega) (zk y) (by omega)) hQ (fun h => ?_) (fun _ c => absurd c (by decide)) (fun h _ => eX10_ofTwo hst ⟨fun c => absurd c (by decide), fun _ => ⟨fun c => absurd c (by decide), fun _ => ⟨fun c => absurd c (by decide), fun _ => ⟨fun _ => M_pick hst hi rfl rfl h.1 h.2 (fun s' q => ⟨rfl, rfl, hQ s' q⟩), fun c => absurd rfl c⟩⟩⟩⟩) (by decide)
  · rw [zbi2_23, if_pos (by omega)]
theorem M_b24 (hst : l.stackTraces = false) {x y : Th} (hi : MOk b n md [x, y] s) (hE : mEm b s) (hQ : ∀ s', mop b n md (zbi2 24 x y) s s' → Q none s') : EvM l E w (d + 6) MX10_builtIn [.ref w.1, .int (nI 24), .int (nI n)] s Q := by
  have kx := zk_le x
  have ky := zk_le y
  obtain ⟨m4, hx, hy, wx, wy⟩ := hi.two
  refine M_bi2 hst (k := 24) (by decide) hi (su_24 (zk x) (by omega) (zk y) (by omega)) hQ (fun h => ?_) (fun _ c => absurd c (by decide)) (fun h _ => M_find hst hi rfl rfl h.1 (by omega) (fun s' q => ⟨rfl, hQ s' q⟩)) (by decide)
  · rw [zbi2_24, if_pos (by omega)]
theorem M_b25 (hst : l.stackTraces = false) {x y : Th} (hi : MOk b n md [x, y] s) (hE : mEm b s) (hQ : ∀ s', mop b n md (zbi2 25 x y) s s' → Q none s') : EvM l E w (d + 6) MX10_builtIn [.ref w.1, .int (nI 25), .int (nI n)] s Q := by
  have kx := zk_le x
  have ky := zk_le y
  obtain ⟨m4, hx, hy, wx, wy⟩ := hi.two
  refine M_bi2 hst (k := 25) (by decide) hi (su_25 (zk x) (by omega) (zk y) (by omega)) hQ (fun h => ?_) (fun _ c => absurd c (by decide)) (fun h _ => by
    have hv2 : s.2.2.1 107 (n + 1) = zv y := by rw [zk0 h.2] at hy; exact (rmV.int hy).2
    rw [hv2]
    exact eX10_ofTwo hst ⟨fun c => absurd c (by decide), fun _ => ⟨fun c => absurd c (by decide), fun _ => ⟨fun c => absurd c (by decide), fun _ => ⟨fun c => absurd c (by decide), fun _ => ⟨fun c => absurd c (by decide), fun _ => ⟨fun _ => M_pad hst hi rfl h.1 h.2 (fun s' q => ⟨rfl, rfl, hQ s' q⟩), fun c => absurd rfl c⟩⟩⟩⟩⟩⟩) (by decide)
  · rw [zbi2_25, if_pos (by omega)]
theorem M_b26 (hst : l.stackTraces = false) {x y : Th} (hi : MOk b n md [x, y] s) (hE : mEm b s) (hQ : ∀ s', mop b n md (zbi2 26 x y) s s' → Q none s') : EvM l E w (d + 6) MX10_builtIn [.ref w.1, .int (nI 26), .int (nI n)] s Q := by
  have kx := zk_le x
  have ky := zk_le y
  obtain ⟨m4, hx, hy, wx, wy⟩ := hi.two
  refine M_bi2 hst (k := 26) (by decide) hi (su_26 (zk x) (by omega) (zk y) (by omega)) hQ (fun h => ?_) (fun _ c => absurd c (by decide)) (fun h _ => eX10_ofTwo hst ⟨fun c => absurd c (by decide), fun _ => ⟨fun c => absurd c (by decide), fun _ => ⟨fun c => absurd c (by decide), fun _ => ⟨fun c => absurd c (by decide), fun _ => ⟨fun c => absurd c (by decide), fun _ => ⟨fun c => absurd c (by decide), fun _ => ⟨fun _ => M_outer hst hi rfl rfl h.1 h.2 (fun s' q => ⟨rfl, rfl, hQ s' q⟩), fun c => absurd rfl c⟩⟩⟩⟩⟩⟩⟩) (by decide)
  · rw [zbi2_26, if_pos (by omega)]
theorem M_b27 (hst : l.stackTraces = false) {x y : Th} (hi : MOk b n md [x, y] s) (hE : mEm b s) (hQ : ∀ s', mop b n md (zbi2 27 x y) s s' → Q none s') : EvM l E w (d + 6) MX10_builtIn [.ref w.1, .int (nI 27), .int (nI n)] s Q := by
  have kx := zk_le x
  have ky := zk_le y
  obtain ⟨m4, hx, hy, wx, wy⟩ := hi.two
  refine M_bi2 hst (k := 27) (by decide) hi (su_27 (zk x) (by omega) (zk y) (by omega)) hQ (fun h => ?_) (fun _ c => absurd c (by decide)) (fun h _ => M_same hst hi rfl rfl (fun s' q => ⟨rfl, hQ s' q⟩)) (by decide)
  · exact absurd trivial h
/-- box -/
theorem M_box (hst : l.stackTraces = false) {args : List Th} (hal : args.length ≤ 6) (hi : MOk b n md args s) (hQ : ∀ s', mop b n md (zmk (zP args)) s s' → Q none s') : EvM l E w (d + 6) MX10_builtIn [.ref w.1, .int 5, .int (nI n)] s Q := by
  have ha := hi.acc0
  have hC := hi.ctx
  have hall : ∀ i, zsu 5 args i = true := by
    intro i
    induction i with
    | zero => rfl
    | succ i ih =>
      rw [zsu_succ, ih, Bool.true_and]
      rfl
  refine M_biCore hst (k := 5) (by decide) hi hal (fun e => ?_) (fun _ _ => ?_) (fun _ c => absurd c (by decide)) (fun _ c => absurd c (by decide)) (fun _ c => absurd c (by decide)) (fun _ c => absurd c (by decide))
  · rw [hall] at e; cases e
  · exact K_bm hst hC (k := 3) ha (Or.inr (Or.inr rfl)) (fun c => absurd c (by decide)) (fun c => absurd c (by decide)) hi.2.2.2.2.2.2 hQ
end MBI
