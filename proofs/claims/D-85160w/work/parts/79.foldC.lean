/-! THE COMPONENT: size, widths, kind, sum, max, min -/
section CF
variable {l : Launch} {E : EN} {w : CO} {d : Nat} {s : CS} {f : RH} {Q : KO → CS → RH → Prop}
theorem C_asInt (hst : l.stackTraces = false) {i : Nat} {x : Th} {place : Int32} {f0 : RH} (hi : i < 8400) (h : rcV E f0 (s.2.2.1 24 i) (s.2.2.2 25 i) x) (h1 : zk x = 0 → Q (.inl (some (.int (zv x)))) s f) (h2 : ¬ zk x = 0 → Q (.inr 9) (cwrong s 3 place) f) : EvC l E w (d + 1) MX3_asInt [.ref (w.1 3), .int (nI i), .int place] s f Q := by
  refine eX3_asInt hst ?_
  rw [nI_clamp (by omega)]
  refine ⟨inB_n hi, _, rfl, h.isR, fun e => ⟨inB_n hi, ?_⟩, fun a e => ?_⟩
  · rcases h.cls with ⟨e0, e1, e2⟩ | ⟨p, e1, e2, e3, e4, e5⟩
    · rw [e2]; exact h1 e0
    · rw [e] at e1; cases e1
  · rcases h.cls with ⟨e0, e1, e2⟩ | ⟨p, e1, e2, e3, e4, e5⟩
    · rw [e1] at e; cases e
    · exact C_wrong hst (Q := Q) (h2 e3) (fun _ _ _ => rfl)
theorem C_asRow (hst : l.stackTraces = false) {i c : Nat} {x : Th} {place n : Int32} {f0 : RH} (g : Gw f0 f c) (h0 : f0.2.2.2 ≤ f0.1) (hi : i < 8400) (h : rcV E f0 n (s.2.2.2 25 i) x) (h1 : zk x = 1 → ∀ p, RT E f0 (.ref p) (zR (zr x)) → Q (.inl (some (.ref p))) s f) (h2 : ¬ zk x = 1 → Q (.inr 9) (cwrong s 3 place) f) : EvC l E w (d + 1) MX3_asRow [.ref (w.1 3), .int (nI i), .int place] s f Q := by
  have h' := h.gw g h0
  have hrow := h'.isRow 1 (by decide) (by decide)
  refine eX3_asRow hst ?_
  rw [nI_clamp (by omega)]
  refine ⟨inB_n hi, _, rfl, h.isR, h'.isT, ?_⟩
  by_cases c : zk x = 1
  · obtain ⟨a, ea, ta⟩ := hrow.1 c
    refine is_y (X := True) ea ta ⟨ta, h1 c a ?_⟩
    rw [← ea, ← zk1 c]
    exact (rcV_thing (by omega)).mp h
  · exact is_n (hrow.2 c) (C_wrong hst (Q := Q) (h2 c) (fun _ _ _ => rfl))
theorem C_asTable (hst : l.stackTraces = false) {i c : Nat} {x : Th} {place n : Int32} {f0 : RH} (g : Gw f0 f c) (h0 : f0.2.2.2 ≤ f0.1) (hi : i < 8400) (h : rcV E f0 n (s.2.2.2 25 i) x) (h1 : zk x = 2 → ∀ p, RT E f0 (.ref p) (zT (zt x)) → Q (.inl (some (.ref p))) s f) (h2 : ¬ zk x = 2 → Q (.inr 9) (cwrong s 3 place) f) : EvC l E w (d + 1) MX3_asTable [.ref (w.1 3), .int (nI i), .int place] s f Q := by
  have h' := h.gw g h0
  have hrow := h'.isRow 2 (by decide) (by decide)
  refine eX3_asTable hst ?_
  rw [nI_clamp (by omega)]
  refine ⟨inB_n hi, _, rfl, h.isR, h'.isT, ?_⟩
  by_cases c : zk x = 2
  · obtain ⟨a, ea, ta⟩ := hrow.1 c
    refine is_y (X := True) ea ta ⟨ta, h1 c a ?_⟩
    rw [← ea, ← zk2 c]
    exact (rcV_thing (by omega)).mp h
  · exact is_n (hrow.2 c) (C_wrong hst (Q := Q) (h2 c) (fun _ _ _ => rfl))
theorem C_kind {b p : Nat} {t : Th} (hst : l.stackTraces = false) (h : rcT f.2.2.1 (ez E) b true t (fun _ => .ref p)) {P : KO → CS → RH → Prop} (hP : P (.inl (some (.int (nI (zk t))))) s f) : ∃ k8 : Nat, oc f p k8 ∧ ((k8 = 29 ∧ EvC l E w d MX32_kind [.ref p] s f P) ∨ (k8 = 30 ∧ EvC l E w d MX33_kind [.ref p] s f P) ∨ (k8 = 31 ∧ EvC l E w d MX34_kind [.ref p] s f P) ∨ (k8 = 32 ∧ EvC l E w d MX35_kind [.ref p] s f P)) := by
  obtain ⟨p', e1, e2, e3⟩ := h.ocl
  cases e1
  refine ⟨_, e3, ?_⟩
  rcases zk_c t with e | e | e | e <;> rw [e] at hP ⊢
  · exact Or.inr (Or.inr (Or.inr ⟨rfl, eX35_kind hst hP⟩))
  · exact Or.inl ⟨rfl, eX32_kind hst hP⟩
  · exact Or.inr (Or.inl ⟨rfl, eX33_kind hst hP⟩)
  · exact Or.inr (Or.inr (Or.inl ⟨rfl, eX34_kind hst hP⟩))
/-- size -/
theorem C_b6 (hst : l.stackTraces = false) {n md : Nat} {x : Th} {place : Int32} (h : COk E n md [x] s f) (hQ : ∀ o s' f', cop E n md (zbi1 6 x) place s f o s' f' → Q o s' f') : EvC l E w (d + 2) MX7_work [.ref (w.1 7), .int 6, .int place] s f Q := by
  obtain ⟨hx, wx, h26, h83⟩ := h.v1
  obtain ⟨⟨-, -, h40, hmd⟩, ⟨hr, hz, hcb⟩, -, -⟩ := h
  refine EvC.pfrz (eX7_work hst fun y1 ey => ?_)
  rw [h26, nI_pred] at ey
  subst ey
  rw [nI_clamp (by omega)]
  refine ⟨inB_n (by omega), _, rfl, hx.isR, br_t rfl ⟨fun e => ?_, fun a3 e => ?_⟩⟩
  · rcases hx.cls with ⟨e0, e1, e2⟩ | ⟨p, e1, e2, e3, e4, e5⟩
    · exact C_finW hst (k := 3) (if_pos e0) rfl (cfr.rf JC n s) h40 (by omega) hQ
    · rw [e] at e1; cases e1
  · rcases hx.cls with ⟨e0, e1, e2⟩ | ⟨p, e1, e2, e3, e4, e5⟩
    · rw [e1] at e; cases e
    · rw [e] at e5
      refine ⟨fun o s1 f2 => o = .inl (some (.int (nI (zn x)))) ∧ s1 = s ∧ f2 = f, ?_, C_size hst e5 ⟨rfl, rfl, rfl⟩⟩
      rintro o s1 f2 ⟨rfl, rfl, rfl⟩
      exact ⟨_, rfl, C_finI hst (parts := 1) (if_neg e3) (cfr.rf JC n s1) (Nat.le_refl _) h26 (by omega) h40 hQ⟩
/-- kind -/
theorem C_b8 (hst : l.stackTraces = false) {n md : Nat} {x : Th} {place : Int32} (h : COk E n md [x] s f) (hQ : ∀ o s' f', cop E n md (zbi1 8 x) place s f o s' f' → Q o s' f') : EvC l E w (d + 2) MX7_work [.ref (w.1 7), .int 8, .int place] s f Q := by
  obtain ⟨hx, wx, h26, h83⟩ := h.v1
  obtain ⟨⟨-, -, h40, hmd⟩, ⟨hr, hz, hcb⟩, -, -⟩ := h
  refine EvC.pfrz (eX7_work hst fun y1 ey => ?_)
  rw [h26, nI_pred] at ey
  subst ey
  rw [nI_clamp (by omega)]
  refine ⟨inB_n (by omega), _, rfl, hx.isR, br_f (by decide) (br_f (by decide) (br_t rfl ⟨fun e => ?_, fun a3 e => ?_⟩))⟩
  · rcases hx.cls with ⟨e0, e1, e2⟩ | ⟨p, e1, e2, e3, e4, e5⟩
    · refine C_finI hst (r := zbi1 8 x) (v := 0) (parts := 1) ?_ (cfr.rf JC n s) (Nat.le_refl _) h26 (by omega) h40 hQ
      show Sum.inr (zI (nI (zk x))) = _
      rw [e0]; rfl
    · rw [e] at e1; cases e1
  · rcases hx.cls with ⟨e0, e1, e2⟩ | ⟨p, e1, e2, e3, e4, e5⟩
    · rw [e1] at e; cases e
    · rw [e] at e5
      refine ⟨fun o s1 f2 => o = .inl (some (.int (nI (zk x)))) ∧ s1 = s ∧ f2 = f, ?_, C_kind hst e5 ⟨rfl, rfl, rfl⟩⟩
      rintro o s1 f2 ⟨rfl, rfl, rfl⟩
      exact ⟨_, rfl, C_finI hst (r := zbi1 8 x) (parts := 1) rfl (cfr.rf JC n s1) (Nat.le_refl _) h26 (by omega) h40 hQ⟩
/-- widths -/
theorem C_b7 (hst : l.stackTraces = false) {n md : Nat} {x : Th} {place : Int32} (h : COk E n md [x] s f) (hQ : ∀ o s' f', cop E n md (zbi1 7 x) place s f o s' f' → Q o s' f') : EvC l E w (d + 4) MX7_work [.ref (w.1 7), .int 7, .int place] s f Q := by
  obtain ⟨hx, wx, h26, h83⟩ := h.v1
  obtain ⟨⟨-, -, h40, hmd⟩, ⟨hr, hz, hcb⟩, -, -⟩ := h
  refine EvC.pfrz (eX7_work hst fun y1 ey => ?_)
  rw [h26, nI_pred] at ey
  subst ey
  rw [nI_clamp (by omega)]
  refine ⟨inB_n (by omega), _, rfl, hx.isR, br_f (by decide) (br_t rfl ?_)⟩
  refine C_asTable hst (Gw.rf f) hcb (by omega) hx (fun c p hp => ⟨p, rfl, ?_⟩) (fun c => ?_)
  · have wx' := wx
    rw [zk2 c] at wx'
    obtain ⟨w1, w2, w3⟩ := wx'
    obtain ⟨p', q, v1, v2, v3, v4, v5, v6, v7, v8⟩ := rcT.tab hp
    cases v1
    have hp1 : p < f.1 := Nat.lt_of_lt_of_le v2 hcb
    have hq1 : q < f.1 := Nat.lt_of_lt_of_le v5 hcb
    generalize hT : zt x = T at *
    have hV : (T.map (fun r => nI r.length)).length = T.length := List.length_map ..
    refine eX7_widths hst ⟨v3, q, v4, 11, v6, ?_⟩
    rw [v7, nI_clamp (by omega)]
    refine ⟨i32_nn _ (by omega), by omega, (by show f.2.1 + 1 + T.length ≤ BM; omega), fun a3 f4 e1 e2 => ?_⟩
    subst e1 e2
    rw [fnewA0]
    refine dn (P := fun k => ExC l E w (d + 3) MX7_widths 10 [some (.ref p), some (.ref f.1), some (.int (nI k))] [] s (fA f T.length ((T.map (fun r => nI r.length)).take k)) _) T.length ?_ (fun k hk ih => ?_)
    · rw [List.take_of_length_le (by omega)]
      refine vX7_widths_10 ⟨0, (fA_tg f _ _).1, ?_⟩
      rw [(fA_tg f _ _).2.1]
      refine pk_le T.length T.length (fun _ => ?_) (fun c => by omega) rfl rfl
      have g := fA_gw f T.length (T.map (fun r => nI r.length))
      refine C_newRow hst (fA_rI f T.length _ (Nat.le_trans hz hcb) hV) (by have := g.2.2.1; omega) (Nat.le_succ_of_le hcb) (fun f' q1 q2 => ⟨_, rfl, ?_⟩)
      have hw : ZW (zR (T.map (fun r => nI r.length))) := by show (T.map _).length ≤ 64; rw [hV]; omega
      refine C_fin hst (r := zbi1 7 x) (parts := 1) (f0 := f) (c := T.length + 3) ?_ (cfr.rf JC n s) (by have := g.2.2.1; have := q2.2.2.1; omega) q1 (by show ¬ 1 = 0; decide) hw h26 (by omega) h40 hmd (by show _ ≤ 2 * (4 + (T.map _).length); rw [hV]; omega) hQ
      rw [show zbi1 7 x = (if zk x ≠ 2 then .inl 3 else .inr (zR ((zt x).map (fun r => nI r.length)))) from rfl, if_neg (fun z => z c), hT]
    · have g := fA_gw f T.length ((T.map (fun r => nI r.length)).take k)
      have hll : ((T.map (fun r => nI r.length)).take k).length = k := by rw [List.length_take]; omega
      refine vX7_widths_10 ⟨0, (fA_tg f _ _).1, ?_⟩
      rw [(fA_tg f _ _).2.1, nI_clamp (by omega)]
      obtain ⟨r, r1, r2, r3, r4, r5⟩ := (v8 k hk).vw
      have hr1 : r < f.1 := Nat.lt_of_lt_of_le r2.2 hcb
      refine pk_le T.length k (fun c => by omega) (fun _ => ⟨g.ocE hp1 v3, q, by rw [g.vlE hp1]; exact v4, 11, by decide, (g.tgE hq1).trans v6, by rw [g.lnE hq1, v7]; exact inB_n hk, r, by rw [g.vlE hq1]; exact r1, 0, (g.tgE hr1).trans r3, (fA_tg f _ _).1, inB_n hk, hcb, fun f14 e => ?_⟩) rfl rfl
      rw [g.lnE hr1, r4] at e
      have := fA_snoc f T.length ((T.map (fun r => nI r.length)).take k) (nI (T.getD k []).length)
      rw [hll] at this
      have e2 := take_succ_getD (T.map (fun r => nI r.length)) 0 k (by omega)
      rw [getD_map (fun r : List Int32 => nI r.length) T [] 0 hk] at e2
      rw [e, this, ← e2, nI_1]
      exact ih
  · exact hQ _ _ _ (cop.tr (k := 3) (if_pos c) rfl h40 (by omega))
theorem C_folded (hst : l.stackTraces = false) {q z b k : Nat} {a : List Int32} {which place : Int32} (hk : (k = 9 ∧ which = 9) ∨ (k = 10 ∧ which = 10) ∨ (k = 11 ∧ which = 11)) (ha : rcI f.2.2.1 z b (.ref q) a) (hl : a.length ≤ 64) (hroom : f.2.1 + 230 ≤ BM) (h1 : ∀ v, zfold k a = some v → Q (.inl (some (.int v))) s f) (h2 : zfold k a = none → Q (.inr 9) (cwrong s 5 place) (fexc f)) : EvC l E w (d + 1) MX7_folded [.ref (w.1 7), .int which, .ref q, .int place] s f Q := by
  obtain ⟨q', v1, v2, v3, v4, v5⟩ := ha.vw
  cases v1
  refine eX7_folded hst ?_
  by_cases h9 : k = 9
  · have hw : which = 9 := by rcases hk with h | h | h <;> first | exact h.2 | omega
    subst h9 hw
    refine ⟨fun c => absurd rfl c, fun _ => ?_⟩
    refine dn (P := fun i => ExC l E w (d + 1) MX7_folded 12 [none, none, some (.ref q), none, some (.int ((a.take i).foldl (· + ·) 0)), some (.int (nI i))] [] s f Q) a.length ?_ (fun i hi ih => ?_)
    · rw [List.take_length]
      refine vX7_folded_12 ⟨0, v3, ?_⟩
      rw [v4]
      exact pk_le a.length a.length (fun _ => h1 _ rfl) (fun c => by omega) rfl rfl
    · refine vX7_folded_12 ⟨0, v3, ?_⟩
      rw [v4, nI_clamp (by omega)]
      refine pk_le a.length i (fun c => by omega) (fun _ => ⟨v3, br_t (inB_n hi) ⟨_, v5 i hi, fun y ey => ?_⟩⟩) rfl rfl
      rw [take_succ_getD a 0 i hi, List.foldl_append] at ih
      rw [ey, nI_1]
      exact ih
  · refine ⟨fun _ => ⟨v3, ?_⟩, fun c => by rcases hk with ⟨h, _⟩ | ⟨_, h⟩ | ⟨_, h⟩ <;> first | exact absurd h h9 | (rw [h] at c; exact absurd c (by decide))⟩
    rw [v4]
    cases a with
    | nil => exact ⟨fun c => absurd c.2 (Nat.not_lt_zero _), fun _ => ⟨by decide, (by show f.2.1 + 3 + 222 ≤ BM; omega), fun a3 f2 e => by rw [e]; exact C_wrong hst (Q := Q) (h2 (zfold_nil h9)) (fun _ _ _ => rfl)⟩⟩
    | cons x r =>
      rw [List.length_cons] at hl v4
      refine br_t (inB_n (n := 0) (Nat.succ_pos _) (by rw [List.length_cons]; omega)) ⟨x, v5 0 (Nat.succ_pos _), ?_⟩
      refine dn (P := fun i => ExC l E w (d + 1) MX7_folded 60 [none, some (.int which), some (.ref q), none, some (.int ((r.take i).foldl (fun v w => if k = 10 then (if v < w then w else v) else (if w < v then w else v)) x)), some (.int (nI (i + 1)))] [] s f Q) r.length ?_ (fun i hi ih => ?_)
      · rw [List.take_length]
        refine vX7_folded_60 ⟨0, v3, ?_⟩
        rw [v4]
        exact pk_le (r.length + 1) (r.length + 1) (fun _ => h1 _ (if_neg h9)) (fun c => by omega) rfl rfl
      · refine vX7_folded_60 ⟨0, v3, ?_⟩
        rw [v4, nI_clamp (by omega)]
        rw [take_succ_getD r 0 i hi, List.foldl_append] at ih
        have hv := v5 (i + 1) (by rw [List.length_cons]; omega)
        rw [List.getD_cons_succ] at hv
        refine pk_le (r.length + 1) (i + 1) (fun c => by omega) (fun _ => ?_) rfl rfl
        rcases hk with ⟨h, _⟩ | ⟨h, hw⟩ | ⟨h, hw⟩
        · exact absurd h h9
        · subst h hw
          refine ⟨fun c => absurd rfl c, fun _ => ⟨v3, br_t (inB_n (by omega)) ⟨_, hv, fun y ey => ?_⟩⟩⟩
          rw [ey, nI_1]
          exact ih
        · subst h hw
          refine ⟨fun _ => ⟨v3, br_t (inB_n (by omega)) ⟨_, hv, fun y ey => ?_⟩⟩, fun c => absurd c (by decide)⟩
          rw [ey, nI_1]
          exact ih
theorem C_folds (hst : l.stackTraces = false) {n md k : Nat} {x : Th} {which place : Int32} (hk : (k = 9 ∧ which = 9) ∨ (k = 10 ∧ which = 10) ∨ (k = 11 ∧ which = 11)) (h : COk E n md [x] s f) (hQ : ∀ o s' f', cop E n md (zbi1 k x) place s f o s' f' → Q o s' f') : EvC l E w (d + 3) MX7_folds [.ref (w.1 7), .int which, s.2.2.2 25 n, .int place] s f Q := by
  obtain ⟨hx, wx, h26, h83⟩ := h.v1
  obtain ⟨⟨-, -, h40, hmd⟩, ⟨hr, hz, hcb⟩, -, -⟩ := h
  have b0 : zk x = 0 → zbi1 k x = if k = 9 then .inr x else .inl 3 := fun c => by
    rcases hk with ⟨rfl, _⟩ | ⟨rfl, _⟩ | ⟨rfl, _⟩
    · exact (zbi1_9 x).1 c
    · exact (zbi1_10 x).1 c
    · exact (zbi1_11 x).1 c
  have b1 : zk x = 1 → (∀ v, zfold k (zr x) = some v → zbi1 k x = .inr (zI v)) ∧ (zfold k (zr x) = none → zbi1 k x = .inl 5) := fun c => by
    rcases hk with ⟨rfl, _⟩ | ⟨rfl, _⟩ | ⟨rfl, _⟩
    · exact (zbi1_9 x).2.1 c
    · exact (zbi1_10 x).2.1 c
    · exact (zbi1_11 x).2.1 c
  have b2 : zk x = 2 → (∀ v, zfolds k (zt x) = some v → zbi1 k x = .inr (zR v)) ∧ (zfolds k (zt x) = none → zbi1 k x = .inl 5) := fun c => by
    rcases hk with ⟨rfl, _⟩ | ⟨rfl, _⟩ | ⟨rfl, _⟩
    · exact (zbi1_9 x).2.2.1 c
    · exact (zbi1_10 x).2.2.1 c
    · exact (zbi1_11 x).2.2.1 c
  have b3 : zk x = 3 → zbi1 k x = .inl 3 := fun c => by
    rcases hk with ⟨rfl, _⟩ | ⟨rfl, _⟩ | ⟨rfl, _⟩
    · exact (zbi1_9 x).2.2.2 c
    · exact (zbi1_10 x).2.2.2 c
    · exact (zbi1_11 x).2.2.2 c
  have r1 := hx.isRow 1 (by decide) (by decide)
  have r2 := hx.isRow 2 (by decide) (by decide)
  refine EvC.pfrz (eX7_folds hx.isR hst ⟨hx.isT, ?_⟩)
  by_cases c1 : zk x = 1
  · obtain ⟨p, ep, tp⟩ := r1.1 c1
    have hp : RT E f (.ref p) (zR (zr x)) := by rw [← zk1 c1, ← ep]; exact (rcV_thing (by omega)).mp hx
    have wx' := wx
    rw [zk1 c1] at wx'
    obtain ⟨p', q, v1, v2, v3, v4, v5, v6, v7, v8, v9⟩ := rcT.row hp
    cases v1
    refine is_y (X := True) ep tp ⟨tp, v3, q, v4, C_folded hst hk v9 wx' (by omega) (fun v hv => ⟨v, rfl, ?_⟩) (fun hv => ?_)⟩
    · exact C_finI hst (parts := 1) ((b1 c1).1 v hv) (cfr.rf JC n s) (Nat.le_refl _) h26 (by omega) h40 hQ
    · exact hQ _ _ _ (cop.tr (k := 5) ((b1 c1).2 hv) rfl h40 (by show f.2.1 + 225 ≤ _; omega))
  · refine is_n (r1.2 c1) ⟨hx.isT, ?_⟩
    by_cases c2 : zk x = 2
    · obtain ⟨p, ep, tp⟩ := r2.1 c2
      have hp : RT E f (.ref p) (zT (zt x)) := by rw [← zk2 c2, ← ep]; exact (rcV_thing (by omega)).mp hx
      have wx' := wx
      rw [zk2 c2] at wx'
      obtain ⟨w1, w2, w3⟩ := wx'
      obtain ⟨p', q, v1, v2, v3, v4, v5, v6, v7, v8⟩ := rcT.tab hp
      cases v1
      have hp1 : p < f.1 := Nat.lt_of_lt_of_le v2 hcb
      have hq1 : q < f.1 := Nat.lt_of_lt_of_le v5 hcb
      generalize hT : zt x = T at *
      refine is_y (X := True) ep tp ⟨tp, v3, q, v4, 11, v6, ?_⟩
      rw [v7, nI_clamp (by omega)]
      refine ⟨i32_nn _ (by omega), by omega, (by show f.2.1 + 1 + T.length ≤ BM; omega), fun a3 f4 e1 e2 => ?_⟩
      subst e1 e2
      rw [fnewA0]
      refine dn (P := fun i => ∀ V : List Int32, V.length = i → (∀ j, j < i → zfold k (T.getD j []) = some (V.getD j 0)) → ExC l E w (d + 3) MX7_folds 61 [some (.ref (w.1 7)), some (.int which), none, some (.int place), none, some (.ref p), some (.ref f.1), some (.int (nI i))] [] s (fA f T.length V) _) T.length ?_ (fun i hi ih => ?_) [] rfl (fun j hj => absurd hj (Nat.not_lt_zero j))
      · intro V hV hv
        refine vX7_folds_61 ⟨0, (fA_tg f _ _).1, ?_⟩
        rw [(fA_tg f _ _).2.1]
        refine pk_le T.length T.length (fun _ => ?_) (fun c => by omega) rfl rfl
        have g := fA_gw f T.length V
        refine C_newRow hst (fA_rI f T.length _ (Nat.le_trans hz hcb) hV) (by have := g.2.2.1; omega) (Nat.le_succ_of_le hcb) (fun f' q1 q2 => ?_)
        have hw : ZW (zR V) := by show V.length ≤ 64; omega
        exact C_fin hst (parts := 1) (f0 := f) (c := T.length + 3) ((b2 c2).1 V (zfolds_some T V hV hv)) (cfr.rf JC n s) (by have := g.2.2.1; have := q2.2.2.1; omega) q1 (by show ¬ 1 = 0; decide) hw h26 (by omega) h40 hmd (by show _ ≤ 2 * (4 + V.length); omega) hQ
      · intro V hV hv
        have g := fA_gw f T.length V
        refine vX7_folds_61 ⟨0, (fA_tg f _ _).1, ?_⟩
        rw [(fA_tg f _ _).2.1, nI_clamp (by omega)]
        obtain ⟨r, r1, r2, r3, r4, r5⟩ := (v8 i hi).vw
        have hm := getD_mem ([] : List Int32) hi
        refine pk_le T.length i (fun c => by omega) (fun _ => ⟨g.ocE hp1 v3, q, by rw [g.vlE hp1]; exact v4, 11, by decide, (g.tgE hq1).trans v6, by rw [g.lnE hq1, v7]; exact inB_n hi, r, by rw [g.vlE hq1]; exact r1, ?_⟩) rfl rfl
        have hb := g.2.2.1
        refine C_folded hst hk (g.rI hcb (by rw [← r1]; exact v8 i hi)) (w3 _ hm) (by omega) (fun v hv2 => ⟨v, rfl, (fA_tg f _ _).1, by rw [(fA_tg f _ _).2.1]; exact inB_n hi, hcb, fun f33 e => ?_⟩) (fun hv2 => ?_)
        · have := fA_snoc f T.length V v
          rw [hV] at this
          rw [e, this, nI_1]
          refine ih (V ++ [v]) (by rw [List.length_append, hV]; rfl) (fun j hj => ?_)
          by_cases ej : j = i
          · rw [ej, ← hV, getD_last, hV]; exact hv2
          · rw [getD_app1 _ _ (by omega)]; exact hv j (by omega)
        · refine hQ _ _ _ (cop.tr (k := 5) ((b2 c2).2 (zfolds_none T ⟨_, hm, hv2⟩)) rfl h40 ?_)
          show (fA f T.length V).2.1 + 225 ≤ _
          omega
    · refine is_n (r2.2 c2) ⟨fun e => ?_, fun a e => ?_⟩
      · rcases hx.cls with ⟨e0, e1, e2⟩ | ⟨p, e1, e2, e3, e4, e5⟩
        · have hb0 := b0 e0
          refine ⟨fun c => ?_, fun c => ?_⟩
          · have : k = 9 := by rcases hk with h | h | h <;> first | exact h.1 | (rw [h.2] at c; exact absurd c (by decide))
            rw [if_pos this] at hb0
            rw [hb0] at hQ
            refine hQ _ _ _ ⟨cfr.rf JC n s, wx, ?_, ?_, ?_⟩
            · rw [zk0 e0]; exact h40
            · exact Nat.le_add_right _ _
            · rw [if_neg (fun z => z.2 e0)]
              exact ⟨rfl, h26, hx.frz (Frz.freeze hcb)⟩
          · have : ¬ k = 9 := fun z => by rcases hk with h | h | h <;> first | exact c h.2 | omega
            rw [if_neg this] at hb0
            exact C_finW hst (k := 3) hb0 rfl (cfr.rf JC n s) h40 (by omega) hQ
        · rw [e] at e1; cases e1
      · rcases hx.cls with ⟨e0, e1, e2⟩ | ⟨p, e1, e2, e3, e4, e5⟩
        · rw [e1] at e; cases e
        · exact C_finW hst (k := 3) (b3 (by rcases zk_c x with z | z | z | z <;> omega)) rfl (cfr.rf JC n s) h40 (by omega) hQ
end CF
