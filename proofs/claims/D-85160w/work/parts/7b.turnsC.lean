/-! THE COMPONENT: built-ins 12 .. 15 -/
section CTu
variable {l : Launch} {E : EN} {w : CO} {d : Nat} {s : CS} {f : RH} {Q : KO → CS → RH → Prop}
/-- a Row that was begun ahead of its INTS -/
theorem C_rowLate (hst : l.stackTraces = false) {f0 : RH} {c q : Nat} {V : List Int32} (g : Gw (fnew f0 29) f c) (h0 : f0.2.2.2 ≤ f0.1) (hI : rcI f.2.2.1 (ez E) f.1 (.ref q) V) (hK : ∀ f', rcT f'.2.2.1 (ez E) f'.1 true (zR V) (fun _ => .ref f0.1) → Gw f0 f' (c + 2) → Q (.inl none) s f') : EvC l E w (d + 1) MX32_init [.ref f0.1, .ref q] s f Q := by
  have hlt : f0.1 < (fnew f0 29).1 := Nat.lt_succ_self _
  have g0 := fnew_gw f0 29
  refine C_row hst (g.ocE hlt (fnew_new f0 29)) (by rw [g.2.1]; exact h0) (Nat.lt_of_lt_of_le hlt g.1) hI (fun f' e q1 => hK f' q1 ?_)
  rw [e]
  exact ((g0.trans g).set (Nat.le_refl _)).le (by rw [CZ29]; omega)
/-- a Table that was begun ahead of its rows -/
theorem C_tabLate (hst : l.stackTraces = false) {f0 : RH} {c q : Nat} {R : List (List Int32)} (g : Gw (fnew f0 30) f c) (h0 : f0.2.2.2 ≤ f0.1) (hq : tg f q = some (.inr 11)) (hql : ln f q = R.length) (hqb : q < f.1) (hI : ∀ i, i < R.length → rcI f.2.2.1 (ez E) f.1 (vl f q i) (R.getD i [])) (hK : ∀ f', rcT f'.2.2.1 (ez E) f'.1 true (zT R) (fun _ => .ref f0.1) → Gw f0 f' (c + (3 * R.length + 4)) → Q (.inl none) s f') : EvC l E w (d + 1) MX33_init [.ref f0.1, .ref q] s f Q := by
  have hlt : f0.1 < (fnew f0 30).1 := Nat.lt_succ_self _
  have g0 := fnew_gw f0 30
  refine C_tab hst (g.ocE hlt (fnew_new f0 30)) (by rw [g.2.1]; exact h0) (Nat.lt_of_lt_of_le hlt g.1) hq hql hqb hI (fun f' e q1 => hK f' q1 ?_)
  rw [e]
  exact (((g0.trans g).set (Nat.le_refl _)).chg).le (by rw [CZ30]; omega)
theorem C_turns (hst : l.stackTraces = false) {n md k : Nat} {x : Th} {which place : Int32} (hk : (k = 12 ∧ which = 12) ∨ (k = 13 ∧ which = 13)) (h : COk E n md [x] s f) (hQ : ∀ o s' f', cop E n md (zbi1 k x) place s f o s' f' → Q o s' f') : EvC l E w (d + 3) MX7_turns [.ref (w.1 7), .int which, s.2.2.2 25 n, .int place] s f Q := by
  obtain ⟨hx, wx, h26, h83⟩ := h.v1
  obtain ⟨⟨-, -, h40, hmd⟩, ⟨hr, hz, hcb⟩, -, -⟩ := h
  have hz1 : ez E ≤ f.1 := Nat.le_trans hz hcb
  generalize hgd : (fun r : List Int32 => if k = 12 then zscan 0 r else zsort id r) = gg
  have hgl : ∀ r, (gg r).length = r.length := fun r => by
    rw [← hgd]
    show (if k = 12 then zscan 0 r else zsort id r).length = _
    split
    · exact zscan_len 0 r
    · exact zsort_len id r
  have hb : zbi1 k x = if zk x = 1 then .inr (zR (gg (zr x))) else if zk x = 2 then .inr (zT ((zt x).map gg)) else .inl 3 := by
    rw [← hgd]
    rcases hk with ⟨rfl, _⟩ | ⟨rfl, _⟩
    · exact zbi1_12 x
    · exact zbi1_13 x
  have r1 := hx.isRow 1 (by decide) (by decide)
  /- one row -/
  have hone : ∀ {fk : RH} {q b : Nat} {a : List Int32} {P : KO → CS → RH → Prop}, rcI fk.2.2.1 (ez E) b (.ref q) a → a.length ≤ 64 → fk.2.1 + 70 ≤ BM → fk.2.2.2 ≤ fk.1 → ez E ≤ fk.1 → (∀ f', IA fk a.length (gg a) f' → P (.inl (some (.ref fk.1))) s f') → (¬ which = 12 → EvC l E w (d + 2) MX7_sorted [.ref q] s fk P) ∧ (which = 12 → EvC l E w (d + 2) MX7_scanned [.ref q] s fk P) := by
    intro fk q b a P h1 h2 h3 h4 h5 h6
    refine ⟨fun c => ?_, fun c => ?_⟩
    · have hk13 : k = 13 := by rcases hk with h | h <;> first | exact h.1 | exact absurd h.2 c
      refine C_sorted hst h1 h2 h3 h4 h5 (fun f' hI => h6 f' ?_)
      rw [← hgd, hk13]; exact hI
    · have hk12 : k = 12 := by rcases hk with h | h <;> first | exact h.1 | (rw [h.2] at c; exact absurd c (by decide))
      refine C_scanned hst h1 h2 h3 h4 h5 (fun f' hI => h6 f' ?_)
      rw [← hgd, hk12]; exact hI
  refine EvC.pfrz (eX7_turns hx.isR hst ⟨hx.isT, ?_⟩)
  by_cases c1 : zk x = 1
  · obtain ⟨p, ep, tp⟩ := r1.1 c1
    have hp : RT E f (.ref p) (zR (zr x)) := by rw [← zk1 c1, ← ep]; exact (rcV_thing (by omega)).mp hx
    have wx' := wx
    rw [zk1 c1] at wx'
    have wl : (zr x).length ≤ 64 := wx'
    obtain ⟨p', q, v1, v2, v3, v4, v5, v6, v7, v8, v9⟩ := rcT.row hp
    cases v1
    have hp1 : p < f.1 := Nat.lt_of_lt_of_le v2 hcb
    have g := fnew_gw f 29
    refine is_y (X := True) ep tp ⟨tp, (by show f.2.1 + 1 + 1 ≤ BM; omega), fun a3 f4 e1 e2 => ?_⟩
    subst e1 e2
    have hbud := g.2.2.1
    rw [CZ29] at hbud
    have fin : ∀ f', IA (fnew f 29) (zr x).length (gg (zr x)) f' → EvC l E w (d + 2) MX32_init [.ref f.1, .ref (fnew f 29).1] s f' (fun o s9 f10 => KP o (fun r => r = none ∧ EvC l E w (d + 2) MX3_give_2 [.ref (w.1 3), .ref f.1, .int 1, .int place] s9 f10 (fun o s11 f12 => KP o (fun r => r = none ∧ Q (.inl none) s11 (frz f12)) (fun k => Q (.inr k) s11 (frz f12)))) (fun k => Q (.inr k) s9 (frz f10))) := by
      intro f' hI
      refine C_rowLate hst hI.gw hcb (hI.rI (Nat.le_succ_of_le hz1) (hgl _)) (fun f2 q1 q2 => ⟨rfl, ?_⟩)
      have hw : ZW (zR (gg (zr x))) := by show (gg (zr x)).length ≤ 64; rw [hgl]; exact wl
      exact C_fin hst (parts := 1) (f0 := f) (hb.trans (if_pos c1)) (cfr.rf JC n s) q2.2.2.1 q1 (by show ¬ 1 = 0; decide) hw h26 (by omega) h40 hmd (by show _ ≤ 2 * (4 + (gg (zr x)).length); rw [hgl]; omega) hQ
    have ho := hone (fk := fnew f 29) (P := fun o s6 f7 => KP o (fun r => ∃ a8 : Nat, r = some (.ref a8) ∧ EvC l E w (d + 2) MX32_init [.ref f.1, .ref a8] s6 f7 (fun o s9 f10 => KP o (fun r => r = none ∧ EvC l E w (d + 2) MX3_give_2 [.ref (w.1 3), .ref f.1, .int 1, .int place] s9 f10 (fun o s11 f12 => KP o (fun r => r = none ∧ Q (.inl none) s11 (frz f12)) (fun k => Q (.inr k) s11 (frz f12)))) (fun k => Q (.inr k) s9 (frz f10)))) (fun k => Q (.inr k) s6 (frz f7))) (g.rI hcb v9) wl (by omega) (Nat.le_succ_of_le hcb) (Nat.le_succ_of_le hz1) (fun f' hI => ⟨_, rfl, fin f' hI⟩)
    exact ⟨fun c => ⟨g.ocE hp1 v3, q, by rw [g.vlE hp1]; exact v4, ho.1 c⟩, fun c => ⟨g.ocE hp1 v3, q, by rw [g.vlE hp1]; exact v4, ho.2 c⟩⟩
  · refine is_n (r1.2 c1) ?_
    rw [h26, nI_pred]
    refine C_asTable hst (Gw.rf f) hcb (by omega) hx (fun c2 p hp => ⟨p, rfl, ?_⟩) (fun c2 => hQ _ _ _ (cop.tr (k := 3) (hb.trans (by rw [if_neg c1, if_neg c2])) rfl h40 (by omega)))
    have wx' := wx
    rw [zk2 c2] at wx'
    obtain ⟨w1, w2, w3⟩ := wx'
    obtain ⟨p', q, v1, v2, v3, v4, v5, v6, v7, v8⟩ := rcT.tab hp
    cases v1
    have hp1 : p < f.1 := Nat.lt_of_lt_of_le v2 hcb
    have hq1 : q < f.1 := Nat.lt_of_lt_of_le v5 hcb
    generalize hT : zt x = T at *
    have hzg : ∀ R : List (List Int32), zis (R.map gg) = zis R := fun R => by
      induction R with
      | nil => rfl
      | cons a r ih => rw [List.map_cons, zis_cons, zis_cons, ih, hgl]
    refine ⟨v3, q, v4, 11, v6, ?_⟩
    rw [v7, nI_clamp (by omega)]
    refine ⟨i32_nn _ (by omega), by omega, (by show f.2.1 + 1 + T.length ≤ BM; omega), fun a3 f4 e1 e2 => ?_⟩
    subst e1 e2
    refine dn (P := fun i => ∀ fk, TB E f T.length ((T.take i).map gg) (T.length + 1 + (i + zis (T.take i))) fk → ExC l E w (d + 3) MX7_turns 88 [some (.ref (w.1 7)), some (.int which), none, some (.int place), some (.ref p), some (.ref f.1), some (.int (nI i))] [] s fk _) T.length ?_ (fun i hi ih => ?_) (fnewA f 11 T.length) ((TB.start E f T.length).le (by omega))
    · intro fk hB
      rw [List.take_length] at hB
      have hbud := hB.1.2.2.1
      refine vX7_turns_88 ⟨11, hB.2.2.1, ?_⟩
      rw [hB.2.2.2.1]
      refine pk_le T.length T.length (fun _ => ?_) (fun c => by omega) rfl rfl
      refine C_newTab hst hB (List.length_map ..) (by omega) hcb (fun p' f' q1 q2 => ?_)
      have hw : ZW (zT (T.map gg)) := ⟨by rw [List.length_map]; exact w1, by rw [hzg]; exact w2, fun r hr => by
        obtain ⟨a, ha, rfl⟩ := List.mem_map.mp hr
        rw [hgl]; exact w3 a ha⟩
      exact C_fin hst (parts := 1) (f0 := f) (hb.trans (by rw [if_neg c1, if_pos c2])) (cfr.rf JC n s) q2.2.2.1 q1 (by show ¬ 2 = 0; decide) hw h26 (by omega) h40 hmd (by show _ ≤ 2 * (4 + 4 * (T.map gg).length + zis (T.map gg)); rw [List.length_map, hzg]; omega) hQ
    · intro fk hB
      have g := hB.1
      have hbud := g.2.2.1
      have hm := getD_mem ([] : List Int32) hi
      have htk := take_succ_getD T [] i hi
      have hzk : zis (T.take (i + 1)) = zis (T.take i) + (T.getD i []).length := by rw [htk, zis_app, zis_cons, zis_nil]; omega
      have hzle := zis_take_le T (i + 1)
      have hcb2 : fk.2.2.2 ≤ fk.1 := by have := g.1; rw [g.2.1]; omega
      obtain ⟨r, r1, r2, r3, r4, r5⟩ := (v8 i hi).vw
      have hll : ((T.take i).map gg).length = i := by rw [List.length_map, List.length_take]; omega
      have hmm := take_map_succ gg T [] i hi
      have nxt : ∀ f', IA fk (T.getD i []).length (gg (T.getD i [])) f' → (∃ a40 : Nat, some (Value.ref fk.1) = some (.ref a40) ∧ (tg f' f.1 = some (.inr 11) ∧ tg f' a40 = some (.inr 0) ∧ ez E ≤ a40 ∧ inB (nI i) (ln f' f.1) ∧ f'.2.2.2 ≤ f.1 ∧ ∀ f41 : RH, f41 = fset f' f.1 i (.ref a40) → ExC l E w (d + 3) MX7_turns 88 [some (.ref (w.1 7)), some (.int which), none, some (.int place), some (.ref p), some (.ref f.1), some (.int (nI i + 1))] [] s f41 (fun o s1 f2 => Q o s1 (frz f2)))) := by
        intro f' hI
        have hB2 := hB.grow hI.gw
        refine ⟨_, rfl, hB2.2.2.1, hI.at.1, Nat.le_trans hz1 g.1, by rw [hB2.2.2.2.1]; exact inB_n hi, by rw [hB2.1.2.1]; exact hcb, fun f41 e => ?_⟩
        have hp := hB2.put (hI.rI (Nat.le_trans hz1 g.1) (hgl _))
        rw [hll, ← hmm] at hp
        rw [e, nI_1]
        exact ih _ (hp.le (by omega))
      have ho := hone (fk := fk) (P := fun o s38 f39 => KP o (fun r => ∃ a40 : Nat, r = some (.ref a40) ∧ (tg f39 f.1 = some (.inr 11) ∧ tg f39 a40 = some (.inr 0) ∧ ez E ≤ a40 ∧ inB (nI i) (ln f39 f.1) ∧ f39.2.2.2 ≤ f.1 ∧ ∀ f41 : RH, f41 = fset f39 f.1 i (.ref a40) → ExC l E w (d + 3) MX7_turns 88 [some (.ref (w.1 7)), some (.int which), none, some (.int place), some (.ref p), some (.ref f.1), some (.int (nI i + 1))] [] s38 f41 (fun o s1 f2 => Q o s1 (frz f2)))) (fun k => Q (.inr k) s38 (frz f39))) (g.rI hcb (by rw [← r1]; exact v8 i hi)) (w3 _ hm) (by omega) hcb2 (Nat.le_trans hz1 g.1) nxt
      refine vX7_turns_88 ⟨11, hB.2.2.1, ?_⟩
      rw [hB.2.2.2.1, nI_clamp (by omega)]
      refine pk_le T.length i (fun c => by omega) (fun _ => ⟨fun c => ⟨g.ocE hp1 v3, q, by rw [g.vlE hp1]; exact v4, 11, by decide, (g.tgE hq1).trans v6, by rw [g.lnE hq1, v7]; exact inB_n hi, r, by rw [g.vlE hq1]; exact r1, ho.1 c⟩, fun c => ⟨g.ocE hp1 v3, q, by rw [g.vlE hp1]; exact v4, 11, by decide, (g.tgE hq1).trans v6, by rw [g.lnE hq1, v7]; exact inB_n hi, r, by rw [g.vlE hq1]; exact r1, ho.2 c⟩⟩) rfl rfl
theorem C_b14 (hst : l.stackTraces = false) {n md : Nat} {x : Th} {place : Int32} (h : COk E n md [x] s f) (hQ : ∀ o s' f', cop E n md (zbi1 14 x) place s f o s' f' → Q o s' f') : EvC l E w (d + 3) MX7_work [.ref (w.1 7), .int 14, .int place] s f Q := by
  obtain ⟨hx, wx, h26, h83⟩ := h.v1
  obtain ⟨⟨-, -, h40, hmd⟩, ⟨hr, hz, hcb⟩, -, -⟩ := h
  have hz1 : ez E ≤ f.1 := Nat.le_trans hz hcb
  refine EvC.pfrz (eX7_work hst fun y1 ey => ?_)
  rw [h26, nI_pred] at ey
  subst ey
  rw [nI_clamp (by omega)]
  have g := fnew_gw f 29
  have hbud := g.2.2.1
  rw [CZ29] at hbud
  refine ⟨inB_n (by omega), _, rfl, hx.isR, br_f (by decide) (br_f (by decide) (br_f (by decide) (br_f (by decide) (br_f (by decide) (br_t rfl ⟨(by show f.2.1 + 1 + 1 ≤ BM; omega), fun a3 f4 e1 e2 => ?_⟩)))))⟩
  subst e1 e2
  refine C_asRow hst g hcb (by omega) hx (fun c p hp => ⟨p, rfl, ?_⟩) (fun c => hQ _ _ _ (cop.tr (k := 3) ((zbi1_14 x).trans (if_neg c)) rfl h40 (by omega)))
  have wx' := wx
  rw [zk1 c] at wx'
  have wl : (zr x).length ≤ 64 := wx'
  obtain ⟨p', q, v1, v2, v3, v4, v5, v6, v7, v8, v9⟩ := rcT.row hp
  cases v1
  have hp1 : p < f.1 := Nat.lt_of_lt_of_le v2 hcb
  refine ⟨g.ocE hp1 v3, q, by rw [g.vlE hp1]; exact v4, ?_⟩
  refine C_grade hst (g.rI hcb v9) (Nat.lt_of_lt_of_le v5.2 (Nat.le_trans hcb g.1)) wl (by omega) (Nat.le_succ_of_le hcb) (fun f' hI => ⟨_, rfl, ?_⟩)
  have hsl : (zsort (fun m => (zr x).getD m.toNatClampNeg 0) ((List.range (zr x).length).map nI)).length = (zr x).length := by rw [zsort_len, List.length_map, List.length_range]
  refine C_rowLate hst hI.gw hcb (hI.rI (Nat.le_succ_of_le hz1) hsl) (fun f2 q1 q2 => ⟨rfl, ?_⟩)
  have hw : ZW (zR (zsort (fun m => (zr x).getD m.toNatClampNeg 0) ((List.range (zr x).length).map nI))) := by show (zsort _ _).length ≤ 64; rw [hsl]; exact wl
  exact C_fin hst (parts := 1) (f0 := f) ((zbi1_14 x).trans (if_pos c)) (cfr.rf JC n s) q2.2.2.1 q1 (by show ¬ 1 = 0; decide) hw h26 (by omega) h40 hmd (by show _ ≤ 2 * (4 + (zsort _ _).length); rw [hsl]; omega) hQ
theorem rev_take_succ {α : Type} (a : List α) (x : α) (k : Nat) (hk : k < a.length) : a.reverse.take (k + 1) = a.reverse.take k ++ [a.getD (a.length - 1 - k) x] := by
  rw [take_succ_getD a.reverse x k (by rw [List.length_reverse]; exact hk)]
  congr 2
  rw [getD_lt x (by rw [List.length_reverse]; exact hk), List.getElem_reverse, getD_lt x (by omega)]
theorem C_back (hst : l.stackTraces = false) {n md : Nat} {x : Th} {place : Int32} (h : COk E n md [x] s f) (hQ : ∀ o s' f', cop E n md (zbi1 15 x) place s f o s' f' → Q o s' f') : EvC l E w (d + 5) MX7_work [.ref (w.1 7), .int 15, .int place] s f Q := by
  obtain ⟨hx, wx, h26, h83⟩ := h.v1
  obtain ⟨⟨-, -, h40, hmd⟩, ⟨hr, hz, hcb⟩, -, -⟩ := h
  have hz1 : ez E ≤ f.1 := Nat.le_trans hz hcb
  refine EvC.pfrz (eX7_work hst fun y1 ey => ?_)
  rw [h26, nI_pred] at ey
  subst ey
  rw [nI_clamp (by omega)]
  refine ⟨inB_n (by omega), _, rfl, hx.isR, br_f (by decide) (br_f (by decide) (br_f (by decide) (br_f (by decide) (br_f (by decide) (br_f (by decide) (br_t rfl ?_))))))⟩
  have hb : zbi1 15 x = if zk x = 0 then .inl 3 else .inr (zof (zk x) (ze x).reverse) := rfl
  refine eX7_back hx.isR hst ⟨fun e => ?_, fun p e => ?_⟩
  · rcases hx.cls with ⟨e0, e1, e2⟩ | ⟨p, e1, e2, e3, e4, e5⟩
    · exact C_wrong hst (Q := fun o s1 f2 => KP o (fun r => ∃ a50 : Nat, r = some (.ref a50) ∧ EvC l E w (d + 4) MX3_give_2 [.ref (w.1 3), .ref a50, .int 1, .int place] s1 f2 (fun o s1 f2 => KP o (fun r => r = none ∧ Q (.inl none) s1 (frz f2)) (fun k => Q (.inr k) s1 (frz f2)))) (fun k => Q (.inr k) s1 (frz f2))) (hQ _ _ _ (cop.tr (k := 3) (hb.trans (if_pos e0)) rfl h40 (by omega))) (fun _ _ _ => rfl)
    · rw [e] at e1; cases e1
  rcases hx.cls with ⟨e0, e1, e2⟩ | ⟨p', e1, e2, e3, e4, hp⟩
  · rw [e] at e1; cases e1
  rw [e] at e1 hp
  cases e1
  rw [if_neg e3] at hb
  refine ⟨fun o s1 f2 => o = .inl (some (.int (nI (zn x)))) ∧ s1 = s ∧ f2 = f, ?_, C_size hst hp ⟨rfl, rfl, rfl⟩⟩
  rintro o s1 f2 ⟨rfl, rfl, rfl⟩
  refine ⟨_, rfl, hp.isT, ?_⟩
  have fin : ∀ {t : Th} {c q : Nat} {f' : RH}, zbi1 15 x = .inr t → rcT f'.2.2.1 (ez E) f'.1 true t (fun _ => .ref q) → Gw f2 f' c → c ≤ 2 * zm t → ¬ zk t = 0 → ZW t → ∃ a50 : Nat, some (Value.ref q) = some (.ref a50) ∧ EvC l E w (d + 4) MX3_give_2 [.ref (w.1 3), .ref a50, .int 1, .int place] s1 f' (fun o s1 f2 => KP o (fun r => r = none ∧ Q (.inl none) s1 (frz f2)) (fun k => Q (.inr k) s1 (frz f2))) := by
    intro t c q f' h1 h2 h3 h4 h5 h6
    exact ⟨_, rfl, C_fin hst (parts := 1) (f0 := f2) h1 (cfr.rf JC n s1) h3.2.2.1 h2 h5 h6 h26 (by omega) h40 hmd h4 hQ⟩
  have hrev := zof_rev wx e3
  rcases zcases wx with ⟨v, rfl⟩ | ⟨a, rfl, z1⟩ | ⟨a, rfl, z1, z2, z3⟩ | ⟨a, rfl, z1, z2, z3, z4⟩
  · exact absurd rfl e3
  · have hzo : zof 1 (ze (zR a)).reverse = zR a.reverse := by
      show zof 1 (a.map zI).reverse = _
      rw [← List.map_reverse, zof1]
    have hrl : a.reverse.length = a.length := List.length_reverse ..
    obtain ⟨p', q, v1, v2, v3, v4, v5, v6, v7, v8, v9⟩ := rcT.row hp
    cases v1
    have hp1 : p < f2.1 := Nat.lt_of_lt_of_le v2 hcb
    have hq1 : q < f2.1 := Nat.lt_of_lt_of_le v5.2 hcb
    refine br_t v3.1 ⟨v3.1, i32_nn _ (by show a.length < _; omega), ?_⟩
    rw [show nI (zn (zR a)) = nI a.length from rfl, nI_clamp (by omega)]
    refine ⟨by omega, (by show f2.2.1 + 1 + a.length ≤ BM; omega), fun a8 f9 e1 e2 => ?_⟩
    subst e1 e2
    rw [fnewA0]
    refine dn (P := fun k => ExC l E w (d + 4) MX7_back 40 [none, none, none, some (.int (nI a.length)), some (.ref p), some (.ref f2.1), some (.int (nI k))] [] s1 (fA f2 a.length (a.reverse.take k)) _) a.length ?_ (fun k hk ih => ?_)
    · rw [List.take_of_length_le (by omega)]
      refine vX7_back_40 (pk_le a.length a.length (fun _ => ?_) (fun c => by omega) rfl rfl)
      have g := fA_gw f2 a.length a.reverse
      refine C_newRow hst (fA_rI f2 a.length _ hz1 hrl) (by have := g.2.2.1; omega) (Nat.le_succ_of_le hcb) (fun f' q1 q2 => fin ?_ q1 (g.trans q2) (by show _ ≤ 2 * (4 + a.reverse.length); omega) (by show ¬ 1 = 0; decide) (by show a.reverse.length ≤ 64; omega))
      rw [hb]
      exact congrArg Sum.inr hzo
    · have g := fA_gw f2 a.length (a.reverse.take k)
      have hll : (a.reverse.take k).length = k := by rw [List.length_take]; omega
      refine vX7_back_40 ?_
      rw [show nI a.length - 1 = nI (a.length - 1) from nI_p1 (by omega), pk_sub (by omega), nI_clamp (n := k) (by omega), nI_clamp (n := a.length - 1 - k) (by omega)]
      refine pk_le a.length k (fun c => by omega) (fun _ => ⟨g.ocE hp1 v3, q, by rw [g.vlE hp1]; exact v4, (g.tgE hq1).trans v6, by rw [g.lnE hq1, v7]; exact inB_n (by omega), a.getD (a.length - 1 - k) 0, by rw [g.vlE hq1]; exact v8 _ (by omega), (fA_tg f2 _ _).1, by rw [(fA_tg f2 _ _).2.1]; exact inB_n hk, hcb, fun f23 e => ?_⟩) rfl rfl
      have := fA_snoc f2 a.length (a.reverse.take k) (a.getD (a.length - 1 - k) 0)
      rw [hll, ← rev_take_succ a 0 k hk] at this
      rw [e, this, nI_1]
      exact ih
  · have hzo : zof 2 (ze (zT a)).reverse = zT a.reverse := by
      show zof 2 (a.map zR).reverse = _
      rw [← List.map_reverse, zof2]
    have hrl : a.reverse.length = a.length := List.length_reverse ..
    obtain ⟨p', q, v1, v2, v3, v4, v5, v6, v7, v8⟩ := rcT.tab hp
    cases v1
    have hp1 : p < f2.1 := Nat.lt_of_lt_of_le v2 hcb
    have hq1 : q < f2.1 := Nat.lt_of_lt_of_le v5 hcb
    have hrev' : ZW (zT a.reverse) := by
      have := hrev
      rw [show zk (zT a) = 2 from rfl, hzo] at this
      exact this
    refine br_f (by rw [v3.1]; intro z; cases z) ⟨hp.isT, br_t v3.1 ⟨v3.1, i32_nn _ (by show a.length < _; omega), ?_⟩⟩
    rw [show nI (zn (zT a)) = nI a.length from rfl, nI_clamp (by omega)]
    refine ⟨by omega, (by show f2.2.1 + 1 + a.length ≤ BM; omega), fun a8 f9 e1 e2 => ?_⟩
    subst e1 e2
    refine dn (P := fun k => ∀ fk, TB E f2 a.length (a.reverse.take k) (a.length + 1) fk → ExC l E w (d + 4) MX7_back 101 [none, none, none, some (.int (nI a.length)), some (.ref p), some (.ref f2.1), some (.int (nI k))] [] s1 fk _) a.length ?_ (fun k hk ih => ?_) (fnewA f2 11 a.length) (TB.start E f2 a.length)
    · intro fk hB
      rw [List.take_of_length_le (by omega)] at hB
      have hbud := hB.1.2.2.1
      refine vX7_back_101 (pk_le a.length a.length (fun _ => ?_) (fun c => by omega) rfl rfl)
      refine C_newTab hst hB hrl (by omega) hcb (fun p' f' q1 q2 => fin ?_ q1 q2 (by show _ ≤ 2 * (4 + 4 * a.reverse.length + _); omega) (by show ¬ 2 = 0; decide) hrev')
      rw [hb]
      exact congrArg Sum.inr hzo
    · intro fk hB
      have g := hB.1
      have hll : (a.reverse.take k).length = k := by rw [List.length_take]; omega
      obtain ⟨r, r1, r2, r3, r4, r5⟩ := (v8 (a.length - 1 - k) (by omega)).vw
      have hrl1 : r < f2.1 := Nat.lt_of_lt_of_le r2.2 hcb
      refine vX7_back_101 ?_
      rw [show nI a.length - 1 = nI (a.length - 1) from nI_p1 (by omega), pk_sub (by omega), nI_clamp (n := k) (by omega), nI_clamp (n := a.length - 1 - k) (by omega)]
      refine pk_le a.length k (fun c => by omega) (fun _ => ⟨g.ocE hp1 v3, q, by rw [g.vlE hp1]; exact v4, 11, by decide, (g.tgE hq1).trans v6, by rw [g.lnE hq1, v7]; exact inB_n (by omega), r, by rw [g.vlE hq1]; exact r1, hB.2.2.1, (g.tgE hrl1).trans r3, r2.1, by rw [hB.2.2.2.1]; exact inB_n hk, by rw [g.2.1]; exact hcb, fun f31 e => ?_⟩) rfl rfl
      have := hB.put (hB.old hcb (by rw [← r1]; exact v8 (a.length - 1 - k) (by omega)))
      rw [hll, ← rev_take_succ a [] k hk] at this
      rw [e, nI_1]
      exact ih _ this
  · have hzo : zof 3 (ze (zP a)).reverse = zP a.reverse := by
      show zP (ze (zP a)).reverse = _
      rw [zl_zP]
    have hrl : a.reverse.length = a.length := List.length_reverse ..
    have hzn : zn (zP a) = a.length := by show (zl (zsp a)).length = _; rw [zl_zsp]
    obtain ⟨p', q, v1, v2, v3, v4, v5, v6, v7, v8, v9, v10⟩ := rcT.pack hp
    cases v1
    have hp1 : p < f2.1 := Nat.lt_of_lt_of_le v2 hcb
    have hq1 : q < f2.1 := Nat.lt_of_lt_of_le v5 hcb
    have hrev' : ZW (zP a.reverse) := by
      have := hrev
      rw [show zk (zP a) = 3 from rfl, hzo] at this
      exact this
    rw [hzn]
    refine br_f (by rw [v3.1]; intro z; cases z) ⟨hp.isT, br_f (by rw [v3.1]; intro z; cases z) ⟨i32_nn _ (by omega), ?_⟩⟩
    rw [nI_clamp (by omega)]
    refine ⟨by omega, (by show f2.2.1 + 1 + a.length ≤ BM; omega), fun a8 f9 e1 e2 => ?_⟩
    subst e1 e2
    refine dn (P := fun k => ∀ fk, PB E f2 a.length (a.reverse.take k) (a.length + 1) fk → ExC l E w (d + 4) MX7_back 149 [none, some (.ref p), none, some (.int (nI a.length)), some (.ref f2.1), some (.int (nI k)), none] [] s1 fk _) a.length ?_ (fun k hk ih => ?_) (fnewA f2 4 a.length) (PB.start E f2 a.length)
    · intro fk hB
      rw [List.take_of_length_le (by omega)] at hB
      obtain ⟨b1, b2, b3, b4, b5⟩ := hB
      have hbud := b1.2.2.1
      refine vX7_back_149 (pk_le a.length a.length (fun _ => ⟨(by show fk.2.1 + 1 + 3 ≤ BM; omega), fun a32 f33 e1 e2 => ?_⟩) (fun c => by omega) rfl rfl)
      subst e1 e2
      have gk := fnew_gw fk 31
      have hcbk : fk.2.2.2 ≤ fk.1 := by have := b1.1; rw [b1.2.1]; omega
      refine C_packInit hst (b := fk.1) (T := a.reverse) (fnew_new fk 31) hcbk (Nat.lt_succ_self _) ((gk.tgE b2).trans b3) (by rw [gk.lnE b2, b4, hrl]) b2 (Nat.le_refl _) (fun t ht => z4 t (List.mem_reverse.mp ht)) (by omega) (fun i hi => ?_) (fun f' q1 e1 e2 e3 e4 => ⟨rfl, ?_⟩)
      · rw [gk.vlE b2]
        exact gk.rT (Nat.le_refl _) ((b5 i hi).rep b1 hcb)
      · have gw : Gw f2 f' (a.length + 5) := by
          refine (b1.trans (c2 := 4) ⟨by rw [e1]; exact Nat.le_succ _, by rw [e3]; rfl, by rw [e2]; exact Nat.le_of_eq (by show fk.2.1 + (CZ 31 + 1) = _; rw [CZ31]), fun b hb => (e4 b (by omega)).trans (gk.2.2.2 b hb)⟩).le (by omega)
        refine fin ?_ q1 gw (by show _ ≤ 2 * (4 + 2 * (zl (zsp a.reverse)).length); rw [zl_zsp]; omega) (by show ¬ 3 = 0; decide) hrev'
        rw [hb]
        exact congrArg Sum.inr hzo
    · intro fk hB
      have g := hB.1
      have hll : (a.reverse.take k).length = k := by rw [List.length_take]; omega
      have hr := v10 (a.length - 1 - k) (by omega)
      obtain ⟨r, r1, r2, r3⟩ := hr.ocl
      have hpe : PE E f2 fk (.ref r) (a.getD (a.length - 1 - k) (zI 0)) := Or.inl (by rw [← r1]; exact hr)
      obtain ⟨kk, t1, t2⟩ := hpe.tag g hcb
      refine vX7_back_149 ?_
      rw [show nI a.length - 1 = nI (a.length - 1) from nI_p1 (by omega), pk_sub (by omega), nI_clamp (n := k) (by omega), nI_clamp (n := a.length - 1 - k) (by omega)]
      refine pk_le a.length k (fun c => by omega) (fun _ => ⟨(g.tgE hp1).trans v3.1, g.ocE hp1 v3, q, by rw [g.vlE hp1]; exact v4, 4, by decide, (g.tgE hq1).trans v6, by rw [g.lnE hq1, v7]; exact inB_n (by omega), r, by rw [g.vlE hq1]; exact r1, kk, hB.2.2.1, t1, t2, by rw [hB.2.2.2.1]; exact inB_n hk, by rw [g.2.1]; exact hcb, fun f31 e => ?_⟩) rfl rfl
      have := hB.put hpe
      rw [hll, ← rev_take_succ a (zI 0) k hk] at this
      rw [e, nI_1]
      exact ih _ this
end CTu
