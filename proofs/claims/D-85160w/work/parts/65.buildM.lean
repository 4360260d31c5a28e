/-! THE MODEL: rows, tables and packs out of what is on the pile -/
/-- what is looked through: only that changes, and numbers of J -/
def mfg (J : List Nat) (s s' : MS) : Prop := (∀ j, j ∉ J → s'.1 j = s.1 j) ∧ s'.2.1 = s.2.1 ∧ s'.2.2.2 = s.2.2.2 ∧ ∀ j, j ∉ [109, 110, 111] → s'.2.2.1 j = s.2.2.1 j
theorem mfg.rf (J : List Nat) (s : MS) : mfg J s s := ⟨fun _ _ => rfl, rfl, rfl, fun _ _ => rfl⟩
theorem mfg.trans {J : List Nat} {s s' s'' : MS} (h : mfg J s s') (k : mfg J s' s'') : mfg J s s'' := ⟨fun j hj => (k.1 j hj).trans (h.1 j hj), k.2.1.trans h.2.1, k.2.2.1.trans h.2.2.1, fun j hj => (k.2.2.2 j hj).trans (h.2.2.2 j hj)⟩
theorem mfg.sI (J : List Nat) (s : MS) (j : Nat) (v : Int32) (hj : j ∈ J := by decide) : mfg J s (sI s j v) := ⟨fun i hi => sI_ne s v (fun e => hi (e ▸ hj)), rfl, rfl, fun _ _ => rfl⟩
theorem mfg.gA (J : List Nat) (s : MS) {j k : Nat} (v : Int32) (hj : j ∈ [109, 110, 111] := by decide) : mfg J s (sA s j k v) := ⟨fun _ _ => rfl, rfl, rfl, fun i hi => by
  funext z
  exact sA_ne s v (fun e => hi (by rw [e.1]; exact hj))⟩
theorem mfg.fr {J J' : List Nat} {s s' : MS} (h : mfg J s s') (b n : Nat) (hJ : ∀ j ∈ J, j ∈ J' := by decide) : mfr J' b n s s' :=
  ⟨fun j hj => h.1 j (fun z => hj (hJ j z)), h.2.1, h.2.2.1, fun i _ => by rw [h.2.2.2 104 (by decide)], fun i _ => ⟨by rw [h.2.2.2 106 (by decide)], by rw [h.2.2.2 107 (by decide)]⟩, fun j hj => h.2.2.2 j (fun z => hj (by
    simp only [List.mem_cons, List.not_mem_nil, or_false] at z ⊢
    omega))⟩
abbrev JG : List Nat := [112, 113, 114]
section MB
variable {l : Launch} {E : EN} {w : MO} {d : Nat} {s : MS} {Q : Option Value → MS → Prop}
theorem M_plainBulk (hst : l.stackTraces = false) {p b : Nat} {t : Th} (k : rmT (s.2.2.1 104) b true t p 0) (hb : b ≤ 166300) (hk : zk t < 3) (hQ : Q (some (.int (nI (zb t)))) s) : EvM l E w (d + 1) MX10_plainBulk [.ref w.1, .int (nI p)] s Q := by
  have hh := rmT_head k
  refine eX10_plainBulk hst ⟨inB_n (by omega), ?_⟩
  rw [nI_clamp (by omega), hh.2.1]
  match t, k, hh, hQ, hk with
  | .leaf (.inr (.inl a)), k, hh, hQ, _ =>
    refine ⟨fun c => absurd rfl c, fun _ => M_sizeAt hst (by have := hh.2.2.2; omega) hh.2.2.1 ⟨_, rfl, ?_⟩⟩
    rw [nI_1l]; exact hQ
  | .leaf (.inr (.inr a)), k, hh, hQ, _ =>
    refine ⟨fun _ => ?_, fun c => absurd c (by show ¬ nI 2 = 1; decide)⟩
    have hlen : p + 2 + a.length ≤ b := hh.2.2.2
    have main : ∀ m i, i + m = a.length → ExM l E w (d + 1) MX10_plainBulk 22 [some (.ref w.1), some (.int (nI p)), some (.int (nI (1 + i + zis (a.take i)))), some (.int (nI i))] [] s Q := by
      intro m
      induction m with
      | zero =>
        intro i hi
        have hi : i = a.length := hi
        subst hi
        refine vX10_plainBulk_22 (M_sizeAt hst (by omega) hh.2.2.1 ⟨_, rfl, pk_le a.length a.length (fun _ => ?_) (fun c => by omega) rfl rfl⟩)
        rw [List.take_length]; exact hQ
      | succ m ih =>
        intro i hi
        refine vX10_plainBulk_22 (M_sizeAt hst (by omega) hh.2.2.1 ⟨_, rfl, pk_le a.length i (fun c => by omega) (fun _ => ?_) rfl rfl⟩)
        refine M_part hst k hb (show i < a.length by omega) (by show 1 < 2; decide) ?_ (fun q hq => ⟨_, rfl, ?_⟩)
        · show ¬ zk ((a.map zR).getD i (zI 0)) = 0
          rw [getD_map zR a [] (zI 0) (by omega)]; show ¬ 1 = 0; decide
        · have e : zel (zT a) i = zR (a.getD i []) := getD_map zR a [] (zI 0) (by omega)
          have hq : rmT (s.2.2.1 104) b true (zel (zT a) i) q 0 := hq
          rw [e] at hq
          have h1 := rmT_head hq
          refine M_sizeAt hst (by have := h1.2.2.2; omega) h1.2.2.1 ⟨_, rfl, fun y hy => ?_⟩
          have e2 : y = nI (1 + (i + 1) + zis (a.take (i + 1))) := by
            rw [hy, nI_1l, nI_add, take_succ_getD a [] i (by omega), zis_app, zis_cons, zis_nil]
            congr 1
            show _ + (1 + (a.getD i []).length) = _
            omega
          rw [e2, nI_1]
          exact ih (i + 1) (by omega)
    exact main a.length 0 (by omega)
/-- a pack is looked through from its i-th on, at a level -/
def MeasP (l : Launch) (E : EN) (w : MO) (d b : Nat) (Q : Option Value → MS → Prop) (tl : List Th) : Prop :=
  ∀ (m i k p D B : Nat) (s : MS), i + m = tl.length → k + zd (zP tl) ≤ 8 → rmT (s.2.2.1 104) b true (zP tl) p 0 → s.1 112 = nI (k + 1) → s.2.2.1 109 k = nI p → s.2.2.1 111 k = nI i → s.1 113 = nI D → s.1 114 = nI B → D ≤ 100 → B + ((tl.drop i).map zb).sum ≤ 100000 →
    (∀ s', mfg JG s s' → s'.1 112 = nI k → s'.1 113 = nI (max D (k + 1 + zd (zsp (tl.drop i)))) → s'.1 114 = nI (B + ((tl.drop i).map zb).sum) → (∀ j, j < k → s'.2.2.1 109 j = s.2.2.1 109 j ∧ s'.2.2.1 111 j = s.2.2.1 111 j) → ExM l E w (d + 2) MX10_measure 49 [some (.ref w.1), none, none, none, none] [] s' Q) →
    ExM l E w (d + 2) MX10_measure 49 [some (.ref w.1), none, none, none, none] [] s Q
theorem M_measX (hst : l.stackTraces = false) {b : Nat} (hb : b ≤ 166300) {i k p D B M : Nat} {x : Th} {tl : List Th} {s : MS} (hM : M = max D (k + 1)) (e3 : s.2.2.1 104 p = 3)
    (hpk : p + 4 + 2 * i ≤ b ∧ ((zk x = 0 ∧ s.2.2.1 104 (p + 2 + 2 * i) = 0 ∧ s.2.2.1 104 (p + 3 + 2 * i) = zv x) ∨ (¬ zk x = 0 ∧ s.2.2.1 104 (p + 2 + 2 * i) = 1 ∧ ∃ q, s.2.2.1 104 (p + 3 + 2 * i) = nI q - nI p ∧ rmT (s.2.2.1 104) b true x q 0)))
    (hxw : ZW x) (hxi : ∀ tl, x = zP tl → MeasP l E w d b Q tl) (h112 : s.1 112 = nI (k + 1)) (h109 : s.2.2.1 109 k = nI p) (h111 : s.2.2.1 111 k = nI i) (h114 : s.1 114 = nI B) (hk : k + zd (zP tl) ≤ 8) (hz : zd (zP tl) = zd (zsp tl) + 1) (hdx : zd x ≤ zd (zsp tl)) (hB : B + zb x ≤ 100000) (hp : p + 2 + tl.length ≤ b) (hM1 : M ≤ 100) (hi : i < 1000)
    (fin : ∀ (s1 : MS), mfg JG s s1 → s1.1 112 = nI (k + 1) → s1.2.2.1 109 k = nI p → s1.2.2.1 111 k = nI (i + 1) → (∀ j, j < k → s1.2.2.1 109 j = s.2.2.1 109 j ∧ s1.2.2.1 111 j = s.2.2.1 111 j) → ∀ D1, D1 = max D (k + 1 + zd x) → s1.1 113 = nI D1 → s1.1 114 = nI (B + zb x) → ExM l E w (d + 2) MX10_measure 49 [some (.ref w.1), none, none, none, none] [] s1 Q) :
    EvM l E w (d + 1) MX10_isInt [.ref w.1, .int (nI p), .int (nI i)] (sA (sI s 113 (nI M)) 111 k (((sI s 113 (nI M)).2.2.1 111 k) + 1)) (fun r s6 => ∃ v7 : Int32, r = some (.int v7) ∧ ((v7 = 0 → (EvM l E w (d + 1) MX10_partAt [.ref w.1, .int (nI p), .int (nI i)] s6 (fun r s8 => ∃ v9 : Int32, r = some (.int v9) ∧ (inB v9 166300 ∧ ((¬ (s8.2.2.1 104 v9.toNatClampNeg) = 3 → (EvM l E w (d + 1) MX10_partAt [.ref w.1, .int (nI p), .int (nI i)] s8 (fun r s10 => ∃ v11 : Int32, r = some (.int v11) ∧ (EvM l E w (d + 1) MX10_plainBulk [.ref w.1, .int v11] s10 (fun r s12 => ∃ v13 : Int32, r = some (.int v13) ∧ ExM l E w (d + 2) MX10_measure 49 [some (.ref w.1), none, none, none, none] [] (sI s12 114 ((s8.1 114) + v13)) Q))))) ∧ ((s8.2.2.1 104 v9.toNatClampNeg) = 3 → (EvM l E w (d + 1) MX10_partAt [.ref w.1, .int (nI p), .int (nI i)] (sI s8 114 ((s8.1 114) + 1)) (fun r s14 => ∃ v15 : Int32, r = some (.int v15) ∧ (EvM l E w (d + 1) MX10_goesIn [.ref w.1, .int v15, .int 0] s14 (fun r s16 => r = none ∧ ExM l E w (d + 2) MX10_measure 49 [some (.ref w.1), none, none, none, none] [] s16 Q)))))))))) ∧ (¬ v7 = 0 → ExM l E w (d + 2) MX10_measure 49 [some (.ref w.1), none, none, none, none] [] (sI s6 114 ((s6.1 114) + 1)) Q))) := by
  have e1 : (sI s 113 (nI M)).2.2.1 111 k + 1 = nI (i + 1) := by show s.2.2.1 111 k + 1 = _; rw [h111, nI_1]
  rw [e1]
  have hg : mfg JG s (sA (sI s 113 (nI M)) 111 k (nI (i + 1))) := (mfg.sI JG s 113 _).trans (mfg.gA JG _ _)
  have g109 : (sA (sI s 113 (nI M)) 111 k (nI (i + 1))).2.2.1 109 = s.2.2.1 109 := rfl
  have g111 : ∀ j, (sA (sI s 113 (nI M)) 111 k (nI (i + 1))).2.2.1 111 j = if j = k then nI (i + 1) else s.2.2.1 111 j := by
    intro j
    show (if 111 = 111 ∧ j = k then _ else _) = _
    by_cases h : j = k <;> simp [h, sI]
  have gh : (sA (sI s 113 (nI M)) 111 k (nI (i + 1))).2.2.1 104 = s.2.2.1 104 := rfl
  have g112 : (sA (sI s 113 (nI M)) 111 k (nI (i + 1))).1 112 = nI (k + 1) := h112
  have g113 : (sA (sI s 113 (nI M)) 111 k (nI (i + 1))).1 113 = nI M := rfl
  have g114 : (sA (sI s 113 (nI M)) 111 k (nI (i + 1))).1 114 = nI B := h114
  revert hg g109 g111 gh g112 g113 g114
  generalize sA (sI s 113 (nI M)) 111 k (nI (i + 1)) = s6
  intro hg g109 g111 gh g112 g113 g114
  have gj : ∀ j, j < k → s6.2.2.1 109 j = s.2.2.1 109 j ∧ s6.2.2.1 111 j = s.2.2.1 111 j := fun j hj => ⟨by rw [g109], by rw [g111, if_neg (by omega)]⟩
  have gk : s6.2.2.1 111 k = nI (i + 1) := by rw [g111, if_pos rfl]
  rcases hpk.2 with ⟨a1, a2, a3⟩ | ⟨a1, a2, q, a3, a4⟩
  · refine M_isInt hst (by omega) (fun _ => ⟨_, rfl, fun c => absurd c (by decide), fun _ => ?_⟩) (fun c => absurd (by rw [gh]; exact a2) c)
    have ex := zk0 a1
    refine fin _ (hg.trans (mfg.sI JG _ 114 _)) g112 (by show s6.2.2.1 109 k = _; rw [g109]; exact h109) gk gj (max D (k + 1 + zd x)) rfl ?_ ?_
    · show s6.1 113 = _
      rw [g113, ex]; congr 1
    · show s6.1 114 + 1 = _
      rw [g114, nI_1, ex]; rfl
  · refine M_isInt hst (by omega) (fun c => absurd (show (1 : Int32) = 0 by rw [gh, a2] at c; exact c) (by decide)) (fun _ => ⟨_, rfl, fun _ => ?_, fun c => absurd rfl c⟩)
    refine M_partP hst (by rw [gh]; exact e3) (by omega) (by rw [gh]; exact a3) ⟨_, rfl, ?_⟩
    have hx := rmT_head a4
    refine ⟨inB_n (by omega), ?_⟩
    rw [nI_clamp (by omega), gh, hx.2.1]
    have hzk := zk_le x
    refine bn_eq (zk x) 3 (fun c => ?_) (fun c => ?_) rfl rfl
    · refine M_partP hst (by rw [gh]; exact e3) (by omega) (by rw [gh]; exact a3) ⟨_, rfl, ?_⟩
      have hzd : zd x = 0 := by
        rcases zcases hxw with ⟨v, rfl⟩ | ⟨a, rfl, h1⟩ | ⟨a, rfl, h1, h2, h3⟩ | ⟨l, rfl, h1, h2, h3, h4⟩
        · rfl
        · rfl
        · rfl
        · exact absurd rfl c
      have hk3 : zk x < 3 := by
        rcases zk_c x with e | e | e | e <;> omega
      refine M_plainBulk hst (by rw [gh]; exact a4) hb hk3 ⟨_, rfl, ?_⟩
      refine fin _ (hg.trans (mfg.sI JG _ 114 _)) g112 (by show s6.2.2.1 109 k = _; rw [g109]; exact h109) gk gj (max D (k + 1 + zd x)) rfl ?_ ?_
      · show s6.1 113 = _
        rw [g113, hzd]; congr 1
      · show s6.1 114 + nI (zb x) = _
        rw [g114, nI_add]
    · refine M_partP hst (by show s6.2.2.1 104 p = 3; rw [gh]; exact e3) (by omega) (by show s6.2.2.1 104 _ = _; rw [gh]; exact a3) ⟨_, rfl, ?_⟩
      rcases zcases hxw with ⟨v, rfl⟩ | ⟨a, rfl, h1⟩ | ⟨a, rfl, h1, h2, h3⟩ | ⟨tx, rfl, h1, h2, h3, h4⟩
      · exact absurd c (by show ¬ 0 = 3; decide)
      · exact absurd c (by show ¬ 1 = 3; decide)
      · exact absurd c (by show ¬ 2 = 3; decide)
      · have hbx := zb_zP tx
        have hdp := zd_zP tx
        refine eX10_goesIn hst ?_
        have e112 : (sI s6 114 (s6.1 114 + 1)).1 112 = nI (k + 1) := g112
        rw [e112, nI_clamp (by omega), nI_1]
        refine ⟨inB_n (by omega), inB_n (by omega), inB_n (by omega), rfl, ?_⟩
        have hg2 : mfg JG s6 (sI (sA (sA (sA (sI s6 114 (s6.1 114 + 1)) 109 (k + 1) (nI q)) 110 (k + 1) 0) 111 (k + 1) 0) 112 (nI (k + 1 + 1))) := ((((mfg.sI JG s6 114 _).trans (mfg.gA JG _ _)).trans (mfg.gA JG _ _)).trans (mfg.gA JG _ _)).trans (mfg.sI JG _ 112 _)
        have b109 : ∀ j, j < k + 1 → (sI (sA (sA (sA (sI s6 114 (s6.1 114 + 1)) 109 (k + 1) (nI q)) 110 (k + 1) 0) 111 (k + 1) 0) 112 (nI (k + 1 + 1))).2.2.1 109 j = s6.2.2.1 109 j ∧ (sI (sA (sA (sA (sI s6 114 (s6.1 114 + 1)) 109 (k + 1) (nI q)) 110 (k + 1) 0) 111 (k + 1) 0) 112 (nI (k + 1 + 1))).2.2.1 111 j = s6.2.2.1 111 j := by
          intro j hj
          have : ¬ j = k + 1 := by omega
          exact ⟨by simp [sI, sA, this], by simp [sI, sA, this]⟩
        refine hxi tx rfl tx.length 0 (k + 1) q M (B + 1) _ (by omega) (by omega) (by rw [hg2.2.2.2 104 (by decide), gh]; exact a4) rfl (by simp [sI, sA]) (by simp [sI, sA]; rfl) g113 (by show s6.1 114 + 1 = _; rw [g114, nI_1]) hM1 (by rw [List.drop_zero]; omega) ?_
        intro s' q1 q2 q3 q4 q5
        rw [List.drop_zero] at q3 q4
        refine fin s' ((hg.trans hg2).trans q1) q2 ?_ ?_ (fun j hj => ⟨?_, ?_⟩) (max D (k + 1 + zd (zP tx))) rfl ?_ ?_
        · rw [(q5 k (by omega)).1, (b109 k (by omega)).1, g109]; exact h109
        · rw [(q5 k (by omega)).2, (b109 k (by omega)).2]; exact gk
        · rw [(q5 j (by omega)).1, (b109 j (by omega)).1]; exact (gj j hj).1
        · rw [(q5 j (by omega)).2, (b109 j (by omega)).2]; exact (gj j hj).2
        · rw [q3]; congr 1; omega
        · rw [q4]; congr 1; omega
theorem M_measL (hst : l.stackTraces = false) {b : Nat} (hb : b ≤ 166300) : ∀ t, ZW t → ∀ tl, t = zP tl → MeasP l E w d b Q tl := by
  refine zind (P := fun t => ∀ tl, t = zP tl → MeasP l E w d b Q tl) (fun v tl e => by cases e) (fun a _ tl e => by cases e) (fun a _ _ _ tl e => by cases e) ?_
  intro tl hl1 hl2 hl3 IH tl' e
  have e : tl = tl' := by
    have := congrArg ze e
    rwa [zl_zP, zl_zP] at this
  subst e
  intro m
  induction m with
  | zero =>
    intro i k p D B s hi hk hr h112 h109 h111 h113 h114 hD hB hQ
    have hi : i = tl.length := hi
    have hh := rmT_head hr
    have hn : zn (zP tl) = tl.length := by rw [zn_ze, zl_zP]
    rw [hn] at hh
    have hz := zd_zP tl
    refine vX10_measure_49 ?_
    rw [h112, h113]
    refine pk_le (k + 1) 0 (fun c => by omega) (fun _ y1 e1 => ?_) rfl rfl
    have e1 : y1 = nI k := by rw [e1, nI_p1 (by omega)]; rfl
    subst e1
    refine ⟨inB_n (by omega), fun y2 e2 => ?_⟩
    rw [nI_clamp (by omega), h109] at e2
    subst e2
    refine ⟨inB_n (by omega), fun y3 e3 => ?_⟩
    rw [nI_clamp (by omega), h111] at e3
    subst e3
    have fin : ∀ X : Int32, X = nI (max D (k + 1)) → ExM l E w (d + 2) MX10_measure 49 [some (.ref w.1), none, none, none, none] [] (sI (sI s 113 X) 112 (((sI s 113 X).1 112) - 1)) Q := by
      intro X eX
      refine hQ _ ((mfg.sI JG s 113 X).trans (mfg.sI JG _ 112 _)) ?_ ?_ ?_ (fun j _ => ⟨rfl, rfl⟩)
      · show s.1 112 - 1 = _
        rw [h112, nI_p1 (by omega)]; rfl
      · show X = _
        rw [eX, hi, List.drop_length]; rfl
      · show s.1 114 = _
        rw [h114, hi, List.drop_length]; rfl
    refine pk_le (k + 1) D (fun c => ?_) (fun c => ?_) rfl rfl
    · refine M_sizeAt hst (by have := hh.2.2.2; omega) hh.2.2.1 ⟨_, rfl, bn_eq i tl.length (fun c => absurd hi c) (fun _ => ?_) rfl rfl⟩
      exact fin (nI D) (by rw [Nat.max_eq_left c])
    · refine M_sizeAt hst (by have := hh.2.2.2; omega) hh.2.2.1 ⟨_, rfl, bn_eq i tl.length (fun c => absurd hi c) (fun _ => ?_) rfl rfl⟩
      exact fin (nI (k + 1)) (by rw [Nat.max_eq_right (by omega)])
  | succ m ih =>
    intro i k p D B s hi hk hr h112 h109 h111 h113 h114 hD hB hQ
    have hh := rmT_head hr
    have hn : zn (zP tl) = tl.length := by rw [zn_ze, zl_zP]
    have hil : i < zn (zP tl) := by omega
    have hpk := rmT_packAt rfl hr hil
    have hze : zel (zP tl) i = tl.getD i (zI 0) := by show (ze (zP tl)).getD i (zI 0) = _; rw [zl_zP]
    rw [hze] at hpk
    rw [hn] at hh
    have hz := zd_zP tl
    have hmem : tl.getD i (zI 0) ∈ tl := getD_mem _ (by omega)
    have hdr : tl.drop i = tl.getD i (zI 0) :: tl.drop (i + 1) := by
      rw [getD_lt _ (by omega)]; exact List.drop_eq_getElem_cons (by omega)
    have hdx := zd_mem tl _ hmem
    have hbd : ((tl.drop i).map zb).sum = zb (tl.getD i (zI 0)) + ((tl.drop (i + 1)).map zb).sum := by rw [hdr, List.map_cons, List.sum_cons]
    have hdd : zd (zsp (tl.drop i)) = max (zd (tl.getD i (zI 0))) (zd (zsp (tl.drop (i + 1)))) := by rw [hdr, zd_cons]
    obtain ⟨hxw, hxi⟩ := IH _ hmem
    revert hpk hmem hdx hbd hdd hxw hxi
    generalize tl.getD i (zI 0) = x
    intro hpk hmem hdx hbd hdd hxw hxi
    -- what follows once the i-th one is done
    have fin : ∀ (s1 : MS) (D1 : Nat), mfg JG s s1 → s1.1 112 = nI (k + 1) → s1.2.2.1 109 k = nI p → s1.2.2.1 111 k = nI (i + 1) → (∀ j, j < k → s1.2.2.1 109 j = s.2.2.1 109 j ∧ s1.2.2.1 111 j = s.2.2.1 111 j) → D1 = max D (k + 1 + zd x) → s1.1 113 = nI D1 → s1.1 114 = nI (B + zb x) → ExM l E w (d + 2) MX10_measure 49 [some (.ref w.1), none, none, none, none] [] s1 Q := by
      intro s1 D1 hg g112 g109 g111 gj gD g113 g114
      refine ih (i + 1) k p D1 (B + zb x) s1 (by omega) hk (by rw [hg.2.2.2 104 (by decide)]; exact hr) g112 g109 g111 g113 g114 (by omega) (by omega) ?_
      intro s2 q1 q2 q3 q4 q5
      refine hQ s2 (hg.trans q1) q2 ?_ ?_ (fun j hj => ⟨(q5 j hj).1.trans (gj j hj).1, (q5 j hj).2.trans (gj j hj).2⟩)
      · rw [q3]; congr 1; omega
      · rw [q4]; congr 1; omega
    refine vX10_measure_49 ?_
    rw [h112, h113]
    refine pk_le (k + 1) 0 (fun c => by omega) (fun _ y1 e1 => ?_) rfl rfl
    have e1 : y1 = nI k := by rw [e1, nI_p1 (by omega)]; rfl
    subst e1
    refine ⟨inB_n (by omega), fun y2 e2 => ?_⟩
    rw [nI_clamp (by omega), h109] at e2
    subst e2
    refine ⟨inB_n (by omega), fun y3 e3 => ?_⟩
    rw [nI_clamp (by omega), h111] at e3
    subst e3
    rw [nI_clamp (by omega)]
    have hh3 := hh.2.2.2
    have e3 : s.2.2.1 104 p = 3 := hh.2.1
    refine pk_le (k + 1) D (fun c => ?_) (fun c => ?_) rfl rfl
    all_goals
      refine M_sizeAt hst (by omega) hh.2.2.1 ⟨_, rfl, bn_eq i tl.length (fun _ => ⟨inB_n (by omega), inB_n (by omega), ?_⟩) (fun c => by omega) rfl rfl⟩
    · exact M_measX hst hb (M := D) (by omega) e3 hpk hxw hxi h112 h109 h111 h114 hk hz hdx (by omega) hh3 (by omega) (by omega) (fun s1 a b c e f D1 g h i => fin s1 D1 a b c e f g h i)
    · exact M_measX hst hb (M := k + 1) (by omega) e3 hpk hxw hxi h112 h109 h111 h114 hk hz hdx (by omega) hh3 (by omega) (by omega) (fun s1 a b c e f D1 g h i => fin s1 D1 a b c e f g h i)
/-- how deep a thing is, its bulk -/
theorem M_measure (hst : l.stackTraces = false) {p b : Nat} {t : Th} (ht : ZW t) (k : rmT (s.2.2.1 104) b true t p 0) (hb : b ≤ 166300) (hQ : ∀ s', mfg JG s s' → s'.1 113 = nI (zd t) → s'.1 114 = nI (zb t) → Q none s') : EvM l E w (d + 2) MX10_measure [.ref w.1, .int (nI p)] s Q := by
  have hh := rmT_head k
  refine eX10_measure hst ⟨inB_n (by omega), ?_⟩
  rw [nI_clamp (by omega), hh.2.1]
  have hzk := zk_le t
  refine bn_eq (zk t) 3 (fun c => ?_) (fun c => ⟨inB_n (by omega), fun z => absurd (by rw [c]; rfl) z, fun _ => ?_⟩) rfl rfl
  · have hk3 : zk t < 3 := by
      rcases zk_c t with e | e | e | e <;> omega
    have hzd : zd t = 0 := by
      rcases zcases ht with ⟨v, rfl⟩ | ⟨a, rfl, h1⟩ | ⟨a, rfl, h1, h2, h3⟩ | ⟨l, rfl, h1, h2, h3, h4⟩
      · rfl
      · rfl
      · rfl
      · exact absurd rfl c
    refine M_plainBulk hst k hb hk3 ⟨_, rfl, inB_n (by omega), ?_⟩
    have e : (sI s 113 0).2.2.1 104 p = nI (zk t) := hh.2.1
    rw [e]
    refine bn_eq (zk t) 3 (fun _ => ?_) (fun z => absurd z c) rfl rfl
    refine vX10_measure_49 ⟨fun _ => ?_, fun z => absurd (by show (0 : Int32) ≤ 0; decide) z⟩
    refine hQ _ (((mfg.sI JG s 113 _).trans (mfg.sI JG _ 114 _)).trans (mfg.sI JG _ 112 _)) ?_ rfl
    rw [hzd]; rfl
  · rcases zcases ht with ⟨v, rfl⟩ | ⟨a, rfl, h1⟩ | ⟨a, rfl, h1, h2, h3⟩ | ⟨tx, rfl, h1, h2, h3, h4⟩
    · exact absurd c (by show ¬ 0 = 3; decide)
    · exact absurd c (by show ¬ 1 = 3; decide)
    · exact absurd c (by show ¬ 2 = 3; decide)
    · have hbx := zb_zP tx
      have hdp := zd_zP tx
      refine eX10_goesIn hst ?_
      have e112 : (sI (sI (sI s 113 0) 114 1) 112 0).1 112 = nI 0 := rfl
      rw [e112, nI_clamp (by omega), nI_1]
      refine ⟨inB_n (by omega), inB_n (by omega), inB_n (by omega), rfl, ?_⟩
      have hg2 : mfg JG s (sI (sA (sA (sA (sI (sI (sI s 113 0) 114 1) 112 0) 109 0 (nI p)) 110 0 0) 111 0 0) 112 (nI (0 + 1))) := ((((((mfg.sI JG s 113 _).trans (mfg.sI JG _ 114 _)).trans (mfg.sI JG _ 112 _)).trans (mfg.gA JG _ _)).trans (mfg.gA JG _ _)).trans (mfg.gA JG _ _)).trans (mfg.sI JG _ 112 _)
      refine M_measL hst hb _ ht tx rfl tx.length 0 0 p 0 1 _ (by omega) (by omega) k rfl rfl rfl rfl rfl (by omega) (by rw [List.drop_zero]; omega) ?_
      intro s' q1 q2 q3 q4 _
      rw [List.drop_zero] at q3 q4
      refine vX10_measure_49 ⟨fun _ => hQ s' (hg2.trans q1) ?_ ?_, fun z => absurd (by rw [q2]; decide) z⟩
      · rw [q3]; congr 1; omega
      · rw [q4]; congr 1; omega
/-- a row out of the INTS on the pile -/
theorem M_rowOf (hst : l.stackTraces = false) {b n : Nat} {xs : List Th} {is : List Int32} (hm : MPl b n (xs ++ is.map zI) s) (hb : b + 2 + is.length ≤ 160000) (hn : n + xs.length < 8900) (hQ : ∀ s', mfr J0 b n s s' → MPl (b + 2 + is.length) n (xs ++ [zR is]) s' → Q none s') : EvM l E w (d + 1) MX10_rowOf [.ref w.1, .int (nI (n + xs.length))] s Q := by
  obtain ⟨h1, h2, h3, h4, h5⟩ := hm
  have hlen : (xs ++ is.map zI).length = xs.length + is.length := by rw [List.length_append, List.length_map]
  rw [hlen] at h3 h4
  have hsv : ∀ i, i < is.length → s.2.2.1 107 (n + xs.length + i) = is.getD i 0 := by
    intro i hi
    have := h5 (xs.length + i) (by rw [hlen]; omega)
    rw [getD_app2, getD_map zI is 0 (zI 0) hi] at this
    rcases this with ⟨_, _, q⟩ | ⟨q, _⟩
    · rw [Nat.add_assoc]; exact q
    · exact absurd rfl q
  refine eX10_rowOf hst ?_
  rw [h4, pk_sub (by omega)]
  have hsub : n + (xs.length + is.length) - (n + xs.length) = is.length := by omega
  rw [hsub]
  refine M_begins hst h1 (by omega) ⟨_, rfl, ?_⟩
  have main : ∀ m i (s' : MS), i + m = is.length → mfr J0 b (n + xs.length + is.length) s s' → s'.1 105 = nI (b + 2 + i) → s'.1 108 = nI (n + (xs.length + is.length)) → s'.2.2.1 104 b = 1 → s'.2.2.1 104 (b + 1) = nI is.length → (∀ j, j < i → s'.2.2.1 104 (b + 2 + j) = is.getD j 0) → ExM l E w (d + 1) MX10_rowOf 14 [some (.ref w.1), some (.int (nI (n + xs.length))), some (.int (nI b)), some (.int (nI (n + xs.length + i)))] [] s' Q := by
    intro m
    induction m with
    | zero =>
      intro i s' hi hf g105 g108 gb gb1 gj
      have hi : i = is.length := hi
      subst hi
      refine vX10_rowOf_14 ?_
      rw [g108]
      refine pk_le _ _ (fun _ => ?_) (fun c => by omega) rfl rfl
      refine M_push hst rfl (by omega) ⟨rfl, hQ _ ?_ ?_⟩
      · exact (hf.mono (b' := b) (n' := n)).trans ((mfr.sI J0 b n s' 108 _).trans (psh_fr J0 b _ _ _ (by omega)))
      · refine ⟨g105, by omega, by rw [List.length_append]; show n + (xs.length + 1) ≤ 8900; omega, by rw [List.length_append]; rfl, fun i hi => ?_⟩
        rw [psh_k, psh_v, psh_h]
        by_cases e : i = xs.length
        · subst e
          rw [if_pos rfl, if_pos rfl, getD_last]
          exact Or.inr ⟨by show ¬ 1 = 0; decide, rfl, b, rfl, (by omega), gb, gb1, gj⟩
        · have hi : i < xs.length := by
            rw [List.length_append] at hi
            have : i < xs.length + 1 := hi
            omega
          rw [if_neg (by omega), if_neg (by omega), getD_app1 _ _ hi]
          have := h5 i (by rw [hlen]; omega)
          rw [getD_app1 _ _ hi] at this
          have hc := hf.2.2.2.2.1 (n + i) (by omega)
          show rmV (s'.2.2.1 104) _ (s'.2.2.1 106 (n + i)) (s'.2.2.1 107 (n + i)) _
          rw [hc.1, hc.2]
          exact rmV_mono (by omega) hf.2.2.2.1 this
    | succ m ih =>
      intro i s' hi hf g105 g108 gb gb1 gj
      refine vX10_rowOf_14 ?_
      rw [g108, g105]
      refine pk_le _ _ (fun c => by omega) (fun _ => ⟨inB_n (by omega), inB_n (by omega), ?_⟩) rfl rfl
      rw [nI_clamp (by omega), nI_clamp (by omega), nI_1, nI_1, (hf.2.2.2.2.1 (n + xs.length + i) (by omega)).2, hsv i (by omega)]
      refine ih (i + 1) _ (by omega) (hf.trans ((mfr.hA J0 s' _ (by omega)).trans (mfr.sI J0 _ _ _ 105 _))) rfl g108 ?_ ?_ ?_
      · show (if 104 = 104 ∧ b = b + 2 + i then _ else _) = _
        rw [if_neg (by omega)]; exact gb
      · show (if 104 = 104 ∧ b + 1 = b + 2 + i then _ else _) = _
        rw [if_neg (by omega)]; exact gb1
      · intro j hj
        show (if 104 = 104 ∧ b + 2 + j = b + 2 + i then _ else _) = _
        by_cases e : j = i
        · subst e; rw [if_pos ⟨rfl, rfl⟩]
        · rw [if_neg (by omega)]; exact gj j (by omega)
  refine main is.length 0 _ (by omega) (((mfr.hA J0 s _ (Nat.le_refl _)).trans (mfr.hA J0 _ _ (by omega))).trans (mfr.sI J0 _ _ _ 105 _)) rfl h4 ?_ ?_ (fun j hj => absurd hj (Nat.not_lt_zero j))
  · show (if 104 = 104 ∧ b = b + 1 then _ else if 104 = 104 ∧ b = b then _ else _) = _
    rw [if_neg (by omega), if_pos ⟨rfl, rfl⟩]
  · show (if 104 = 104 ∧ b + 1 = b + 1 then _ else _) = _
    rw [if_pos ⟨rfl, rfl⟩]
end MB
