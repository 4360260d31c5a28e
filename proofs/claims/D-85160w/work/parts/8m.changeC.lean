/-! THE COMPONENT: a thing with another part -/
theorem TB.setk {E : EN} {f0 f : RH} {n c k q : Nat} {R : List (List Int32)} {r : List Int32} (h : TB E f0 n R c f) (hk : k < R.length) (hq : rcI f.2.2.1 (ez E) f.1 (.ref q) r) : TB E f0 n (R.set k r) c (fset f f0.1 k (.ref q)) := by
  obtain ⟨h1, h2, h3, h4, h5⟩ := h
  obtain ⟨c1, c2, c3⟩ := fset_tg (j := k) (v := .ref q) h3
  have hne : ¬ tg f f0.1 = some (.inr 0) := by rw [h3]; intro z; cases z
  refine ⟨h1.set (Nat.le_refl _), h2, c1, c2.trans h4, fun i hi => ?_⟩
  rw [List.length_set] at hi
  rw [c3, getD_lt (l := R.set k r) _ (by rw [List.length_set]; exact hi), List.getElem_set]
  by_cases e : i = k
  · rw [if_pos e, if_pos e.symm]
    exact rcI_set hq hne
  · rw [if_neg e, if_neg (fun z => e z.symm), ← getD_lt (l := R) [] hi]
    exact rcI_set (h5 i hi) hne
theorem PB.setk {E : EN} {f0 f : RH} {n c k : Nat} {T : List Th} {v : Value} {t : Th} (h : PB E f0 n T c f) (hk : k < T.length) (hq : PE E f0 f v t) : PB E f0 n (T.set k t) c (fset f f0.1 k v) := by
  obtain ⟨h1, h2, h3, h4, h5⟩ := h
  obtain ⟨c1, c2, c3⟩ := fset_tg (j := k) (v := v) h3
  have hne : ¬ tg f f0.1 = some (.inl 32) := by rw [h3]; intro z; cases z
  refine ⟨h1.set (Nat.le_refl _), h2, c1, c2.trans h4, fun i hi => ?_⟩
  rw [List.length_set] at hi
  rw [c3, getD_lt (l := T.set k t) _ (by rw [List.length_set]; exact hi), List.getElem_set]
  by_cases e : i = k
  · rw [if_pos e, if_pos e.symm]
    exact hq.set hne
  · rw [if_neg e, if_neg (fun z => e z.symm), ← getD_lt (l := T) (zI 0) hi]
    exact (h5 i hi).set hne
theorem mem_setk {α : Type} {a x : α} : ∀ {l : List α} {k : Nat}, a ∈ l.set k x → a ∈ l ∨ a = x
  | [], _, h => by cases h
  | y :: r, 0, h => by
    rcases List.mem_cons.mp h with rfl | h
    · exact Or.inr rfl
    · exact Or.inl (List.mem_cons_of_mem _ h)
  | y :: r, k + 1, h => by
    rcases List.mem_cons.mp h with rfl | h
    · exact Or.inl (List.mem_cons_self ..)
    · rcases mem_setk (l := r) (k := k) h with h | h
      · exact Or.inl (List.mem_cons_of_mem _ h)
      · exact Or.inr h
theorem set_memk {α : Type} {x : α} : ∀ {l : List α} {k : Nat}, k < l.length → x ∈ l.set k x
  | [], _, h => absurd h (Nat.not_lt_zero _)
  | y :: r, 0, _ => List.mem_cons_self ..
  | y :: r, k + 1, h => List.mem_cons_of_mem _ (set_memk (l := r) (Nat.lt_of_succ_lt_succ h))
theorem zof_setR (a : List Int32) (k : Nat) (v : Th) : zof 1 ((ze (zR a)).set k v) = zR (a.set k (zv v)) := by
  show zR (((a.map (fun v => (zI v : Th))).set k v).map zv) = _
  rw [List.map_set, List.map_map]
  congr 1
  have : a.map (zv ∘ fun v => (zI v : Th)) = a := by
    have : (zv ∘ fun v => (zI v : Th)) = id := rfl
    rw [this, List.map_id]
  rw [this]
theorem zof_setT (a : List (List Int32)) (k : Nat) (v : Th) : zof 2 ((ze (zT a)).set k v) = zT (a.set k (zr v)) := by
  show zT (((a.map (fun v => (zR v : Th))).set k v).map zr) = _
  rw [List.map_set, List.map_map]
  congr 1
  have : a.map (zr ∘ fun v => (zR v : Th)) = a := by
    have : (zr ∘ fun v => (zR v : Th)) = id := rfl
    rw [this, List.map_id]
  rw [this]
theorem zof_setP (l : List Th) (k : Nat) (v : Th) : zof 3 ((ze (zP l)).set k v) = zP (l.set k v) := by
  show zP ((ze (zP l)).set k v) = _
  rw [zl_zP]
theorem zmk_gt {t : Th} (h : zgt t = true) : zmk t = .inl 2 := if_pos h
theorem zmk_le {t : Th} (h : zgt t = false) : zmk t = .inr t := if_neg (by rw [h]; decide)
section CCh
variable {l : Launch} {E : EN} {w : CO} {d : Nat} {s : CS} {f : RH} {Q : KO → CS → RH → Prop}
/-- N [E] = E: the new thing -/
theorem C_changed1 (hst : l.stackTraces = false) {m p b1 : Nat} {i j : Int32} {x v : Th} {fp : Int32} (hx : RT E f (.ref p) x) (wx : ZW x) (hk : ¬ zk x = 0) (hm : m < 8400) (hv : rcV E f (s.2.2.1 24 m) (s.2.2.2 25 m) v) (wv : ZW v) (h1v : zk x = 1 → zk v = 0) (h2v : zk x = 2 → zk v = 1) (hb : b1 < f.2.2.2) (ho : oc f b1 28) (h201 : vl f b1 201 = .null) (h198 : vl f b1 198 = .int fp) (hroom : f.2.1 + 1000 ≤ BM) (hz : ez E ≤ f.2.2.2) (hcb : f.2.2.2 ≤ f.1)
    (h5 : ¬ inB i (zn x) → ∀ f', Gw f f' 400 → Q (.inr 35) s f') (hgr : inB i (zn x) → zmk (zof (zk x) ((ze x).set i.toNatClampNeg v)) = .inl 2 → ∀ f', Gw f f' 400 → Q (.inr 9) (cwrong s 2 fp) f')
    (hok : inB i (zn x) → ∀ t, zmk (zof (zk x) ((ze x).set i.toNatClampNeg v)) = .inr t → ¬ zk t = 0 → ∀ c q f', rcT f'.2.2.1 (ez E) f'.1 true t (fun _ => .ref q) → c ≤ 2 * zm t → Gw f f' c → Q (.inl (some (.ref q))) s f') : EvC l E w (d + 4) MX6_changed [.ref (w.1 6), .ref p, .int i, .int (nI m), .int j, .ref b1] s f Q := by
  have hz1 : ez E ≤ f.1 := Nat.le_trans hz hcb
  have hb1 : b1 < f.1 := Nat.lt_of_lt_of_le hb hcb
  rcases zcases wx with ⟨v0, rfl⟩ | ⟨a, rfl, z1⟩ | ⟨T, rfl, z1, z2, z3⟩ | ⟨T, rfl, z1, z2, z3, z4⟩
  · exact absurd rfl hk
  · have hv0 : zk v = 0 := h1v rfl
    obtain ⟨p', q, v1, v2, v3, v4, v5, v6, v7, v8, v9⟩ := rcT.row hx
    cases v1
    have hnx : zn (zR a) = a.length := rfl
    rw [hnx] at h5 hgr hok
    have e1 : zof (zk (zR a)) ((ze (zR a)).set i.toNatClampNeg v) = zR (a.set i.toNatClampNeg (zv v)) := zof_setR a _ v
    rw [e1] at hok
    have hnum : s.2.2.1 24 m = zv v := by
      rcases hv.cls with ⟨_, _, c⟩ | ⟨_, _, _, c, _⟩
      · exact c
      · exact absurd hv0 c
    refine eX6_changed hst ⟨hx.isT, br_t v3.1 ⟨v3.1, v3, q, v4, v6, v5.1, fun i hi => ⟨_, v8 i (by rw [v7] at hi; exact hi)⟩, (by show f.2.1 + 1 + ln f q ≤ BM; rw [v7]; omega), fun a3 f4 e1 e2 => ?_⟩⟩
    subst e1
    have hI := IA.clone v9
    rw [← e2] at hI
    obtain ⟨t1, t2, t3⟩ := hI.at
    obtain ⟨u1, u2, u3⟩ := hI.eqs
    refine ⟨t1, hz1, inB_n hm, t1, ?_⟩
    rw [t2, nI_clamp (n := m) (by omega), hnum]
    refine br_c (fun c => ⟨by rw [u3]; exact hcb, fun f5 e => ?_⟩) (fun c => ⟨by omega, (by show f4.2.1 + 3 + 222 ≤ BM; omega), fun a11 f10 e => ?_⟩)
    · have hI2 := hI.set c.2 (zv v)
      rw [← e] at hI2
      obtain ⟨w1, w2, w3⟩ := hI2.eqs
      have hls : (a.set i.toNatClampNeg (zv v)).length = a.length := List.length_set
      refine C_newRow hst (hI2.rI hz1 hls) (by omega) (by rw [w3, w1]; omega) (fun f' q1 q2 => ?_)
      exact hok c _ (zmk_ok (by show (a.set _ _).length ≤ 64; rw [hls]; exact z1)) (by show ¬ 1 = 0; decide) _ _ f' q1 (by show _ ≤ 2 * (4 + (a.set _ _).length); rw [hls]; omega) (hI2.gw.trans q2)
    · rw [e]
      exact h5 c _ ((hI.gw.trans (Gw.exc _)).le (by omega))
  · have hv1 : zk v = 1 := h2v rfl
    obtain ⟨p', q, v1, v2, v3, v4, v5, v6, v7, v8⟩ := rcT.tab hx
    cases v1
    have hp1 : p < f.1 := Nat.lt_of_lt_of_le v2 hcb
    have hq1 : q < f.1 := Nat.lt_of_lt_of_le v5 hcb
    have hnx : zn (zT T) = T.length := rfl
    rw [hnx] at h5 hgr hok
    have e1 : zof (zk (zT T)) ((ze (zT T)).set i.toNatClampNeg v) = zT (T.set i.toNatClampNeg (zr v)) := zof_setT T _ v
    rw [e1] at hok hgr
    obtain ⟨a28, c1, c2⟩ := (hv.isRow 1 (by decide) (by decide)).1 hv1
    have hvr : RT E f (.ref a28) (zR (zr v)) := by rw [← zk1 hv1, ← c1]; exact (rcV_thing (by omega)).mp hv
    have wl : (zr v).length ≤ 64 := by have := wv; rw [zk1 hv1] at this; exact this
    obtain ⟨p9, q9, n1, n2, n3, n4, n5, n6, n7, n8, n9⟩ := rcT.row hvr
    cases n1
    have hp9 : a28 < f.1 := Nat.lt_of_lt_of_le n2 hcb
    have hq9 : q9 < f.1 := Nat.lt_of_lt_of_le n5.2 hcb
    refine eX6_changed hst ⟨hx.isT, br_f (by rw [v3.1]; intro z; cases z) ⟨hx.isT, br_t v3.1 ⟨v3.1, v3, q, v4, 11, v6, ?_⟩⟩⟩
    rw [v7, nI_clamp (by omega)]
    refine ⟨i32_nn _ (by omega), by omega, (by show f.2.1 + 1 + T.length ≤ BM; omega), fun a15 f16 e1 e2 => ?_⟩
    subst e1 e2
    refine dn (P := fun k => ∀ fk, TB E f T.length (T.take k) (T.length + 1) fk → ExC l E w (d + 4) MX6_changed 76 [some (.ref (w.1 6)), none, some (.int i), some (.int (nI m)), some (.int j), some (.ref b1), some (.ref p), some (.ref f.1), some (.int (nI k))] [] s fk Q) T.length ?_ (fun k hk ih => ?_) (fnewA f 11 T.length) (TB.start E f T.length)
    · intro fk hB
      rw [List.take_length] at hB
      have g := hB.1
      have hbud := g.2.2.1
      have hcbk : fk.2.2.2 ≤ fk.1 := by have := g.1; rw [g.2.1]; omega
      refine vX6_changed_76 ⟨11, hB.2.2.1, ?_⟩
      rw [hB.2.2.2.1, nI_clamp (n := m) (by omega)]
      refine pk_le T.length T.length (fun _ => ⟨g.ocE hb1 ho, .null, by rw [g.vlE hb1]; exact h201, rfl, fun _ => ⟨inB_n hm, _, rfl, hv.isR, a28, c1, (g.tgE hp9).trans n3.1, g.ocE hp9 n3, q9, by rw [g.vlE hp9]; exact n4, hB.2.2.1, (g.tgE hq9).trans n6, n5.1, ?_⟩, fun a e => by cases e⟩) (fun c => by omega) rfl rfl
      refine br_c (fun c => ⟨by rw [g.2.1]; exact hcb, fun f30 e => ?_⟩) (fun c => ⟨by omega, (by show fk.2.1 + 3 + 222 ≤ BM; omega), fun a11 f10 e => ?_⟩)
      · have hB2 := hB.setk c.2 (hB.old hcb n9)
        rw [← e] at hB2
        obtain ⟨b1', b2, b3, b4, b5⟩ := hB2
        have hls : (T.set i.toNatClampNeg (zr v)).length = T.length := List.length_set
        have hbud2 := b1'.2.2.1
        refine ⟨b1'.ocE hb1 ho, fp, by rw [b1'.vlE hb1]; exact h198, ?_⟩
        refine C_table hst b3 (b4.trans hls.symm) b2 b5 (by omega) (fun r hr => ?_) (by omega) (by have := b1'.1; rw [b1'.2.1]; omega) (fun hz1 f' q1 q2 => ⟨_, rfl, hok c _ (zmk_le hz1) (by show ¬ 2 = 0; decide) _ _ f' q1 ?_ (b1'.trans q2)⟩) (fun hz1 f' q2 => hgr c (zmk_gt hz1) f' ((b1'.trans q2).le (by omega)))
        · rcases mem_setk hr with hr | rfl
          · exact z3 r hr
          · exact wl
        · show _ ≤ 2 * (4 + 4 * (T.set i.toNatClampNeg (zr v)).length + zis (T.set i.toNatClampNeg (zr v))); rw [hls]; omega
      · rw [e]
        exact h5 c _ ((g.trans (Gw.exc _)).le (by omega))
    · intro fk hB
      have hll : (T.take k).length = k := by rw [List.length_take]; omega
      have g := hB.1
      have hbud := g.2.2.1
      refine vX6_changed_76 ⟨11, hB.2.2.1, ?_⟩
      rw [hB.2.2.2.1]
      refine pk_le T.length k (fun c => by omega) (fun _ => ⟨g.ocE hp1 v3, q, by rw [g.vlE hp1]; exact v4, 11, by decide, (g.tgE hq1).trans v6, ?_⟩) rfl rfl
      rw [g.lnE hq1, v7, nI_clamp (n := k) (by omega)]
      obtain ⟨r, g1, g2, g3, g4, g5⟩ := (v8 k hk).vw
      have hrl : r < f.1 := Nat.lt_of_lt_of_le g2.2 hcb
      refine br_t (inB_n hk) ⟨r, by rw [g.vlE hq1]; exact g1, hB.2.2.1, (g.tgE hrl).trans g3, g2.1, br_t (inB_n hk) ⟨by rw [g.2.1]; exact hcb, fun f55 e => ?_⟩⟩
      have := hB.put (hB.old hcb (by rw [← g1]; exact v8 k hk))
      rw [hll, ← take_succ_getD T [] k hk] at this
      rw [e, nI_1]
      exact ih _ this
  · obtain ⟨p', q, v1, v2, v3, v4, v5, v6, v7, _, _, v8⟩ := rcT.pack hx
    cases v1
    have hp1 : p < f.1 := Nat.lt_of_lt_of_le v2 hcb
    have hq1 : q < f.1 := Nat.lt_of_lt_of_le v5 hcb
    have hnx : zn (zP T) = T.length := by show (zl (zsp T)).length = _; rw [zl_zsp]
    rw [hnx] at h5 hgr hok
    have e1 : zof (zk (zP T)) ((ze (zP T)).set i.toNatClampNeg v) = zP (T.set i.toNatClampNeg v) := zof_setP T _ v
    rw [e1] at hok hgr
    refine eX6_changed hst ⟨hx.isT, br_f (by rw [v3.1]; intro z; cases z) ⟨hx.isT, br_f (by rw [v3.1]; intro z; cases z) ⟨fun o s1 f2 => o = .inl (some (.int (nI (zn (zP T))))) ∧ s1 = s ∧ f2 = f, ?_, C_size hst hx ⟨rfl, rfl, rfl⟩⟩⟩⟩
    rintro o s1 f2 ⟨rfl, rfl, rfl⟩
    refine ⟨_, rfl, ?_⟩
    rw [hnx, nI_clamp (n := T.length) (by omega)]
    refine ⟨i32_nn _ (by omega), by omega, (by show f2.2.1 + 1 + T.length ≤ BM; omega), fun a15 f16 e1 e2 => ?_⟩
    subst e1 e2
    refine dn (P := fun k => ∀ fk, PB E f2 T.length (T.take k) (T.length + 1) fk → ExC l E w (d + 4) MX6_changed 181 [some (.ref (w.1 6)), some (.ref p), some (.int i), some (.int (nI m)), none, some (.ref b1), some (.ref f2.1), some (.int (nI k)), none] [] s1 fk Q) T.length ?_ (fun k hk ih => ?_) (fnewA f2 4 T.length) (PB.start E f2 T.length)
    · intro fk hB
      rw [List.take_length] at hB
      have g := hB.1
      have hbud := g.2.2.1
      refine vX6_changed_181 ⟨4, hB.2.2.1, ?_⟩
      rw [hB.2.2.2.1]
      refine pk_le T.length T.length (fun _ => ?_) (fun c => by omega) rfl rfl
      refine C_asThing hst g hcb hm hv (by omega) (fun y f' hPE g' => ⟨y, rfl, ?_⟩)
      have hB1 := hB.grow g'
      have gg := hB1.1
      have hbud1 := gg.2.2.1
      obtain ⟨kc, k1, k2⟩ := hPE.tag gg hcb
      refine ⟨kc, hB1.2.2.1, k1, k2, ?_⟩
      rw [hB1.2.2.2.1]
      refine br_c (fun c => ⟨by rw [gg.2.1]; exact hcb, fun f30 e => ?_⟩) (fun c => ⟨by omega, (by show f'.2.1 + 3 + 222 ≤ BM; omega), fun a11 f10 e => ?_⟩)
      · have hB2 := hB1.setk c.2 hPE
        rw [← e] at hB2
        obtain ⟨b1', b2, b3, b4, b5⟩ := hB2
        have hls : (T.set i.toNatClampNeg v).length = T.length := List.length_set
        have hbud2 := b1'.2.2.1
        refine ⟨b1'.ocE hb1 ho, fp, by rw [b1'.vlE hb1]; exact h198, ?_⟩
        refine C_pack hst b3 (b4.trans hls.symm) b2 (fun i hi => (b5 i hi).rep b1' hcb) (fun t ht => ?_) (by omega) (by omega) (by have := b1'.1; rw [b1'.2.1]; omega) (fun hz1 f3 q1 q2 => ⟨_, rfl, hok c _ (zmk_le hz1) (by show ¬ 3 = 0; decide) _ _ f3 q1 ?_ (b1'.trans q2)⟩) (fun hz1 f3 q2 => hgr c (zmk_gt hz1) f3 ((b1'.trans q2).le (by omega)))
        · rcases mem_setk ht with ht | rfl
          · exact z4 t ht
          · exact wv
        · show _ ≤ 2 * (4 + 2 * (zl (zsp (T.set i.toNatClampNeg v))).length); rw [zl_zsp, hls]; omega
      · rw [e]
        exact h5 c _ ((gg.trans (Gw.exc _)).le (by omega))
    · intro fk hB
      have hll : (T.take k).length = k := by rw [List.length_take]; omega
      have g := hB.1
      have hbud := g.2.2.1
      refine vX6_changed_181 ⟨4, hB.2.2.1, ?_⟩
      rw [hB.2.2.2.1]
      refine pk_le T.length k (fun c => by omega) (fun _ => ⟨(g.tgE hp1).trans v3.1, g.ocE hp1 v3, q, by rw [g.vlE hp1]; exact v4, 4, by decide, (g.tgE hq1).trans v6, ?_⟩) rfl rfl
      rw [g.lnE hq1, v7, nI_clamp (n := k) (by omega)]
      have hr := v8 k hk
      obtain ⟨y, y1, y2, y3⟩ := hr.ocl
      have hy : y < f2.1 := Nat.lt_of_lt_of_le y2 hcb
      refine br_t (inB_n hk) ⟨y, by rw [g.vlE hq1]; exact y1, _, hB.2.2.1, (g.tgE hy).trans y3.1, ?_, br_t (inB_n hk) ⟨by rw [g.2.1]; exact hcb, fun f55 e => ?_⟩⟩
      · rcases zk_c (T.getD k (zI 0)) with e | e | e | e <;> rw [e] <;> decide
      · have := hB.put (v := .ref y) (t := T.getD k (zI 0)) (Or.inl (by rw [← y1]; exact hr))
        rw [hll, ← take_succ_getD T (zI 0) k hk] at this
        rw [e, nI_1]
        exact ih _ this
/-- N [E] [E] = E: the new table -/
theorem C_changed2 (hst : l.stackTraces = false) {m p b1 a26 : Nat} {i j : Int32} {T : List (List Int32)} {v : Th} {fp sp : Int32} (hx : RT E f (.ref p) (zT T)) (wx : ZW (zT T)) (hm : m < 8400) (hnum : s.2.2.1 24 m = zv v) (hb : b1 < f.2.2.2) (ho : oc f b1 28) (h201 : vl f b1 201 = .ref a26) (h198 : vl f b1 198 = .int fp) (h199 : vl f b1 199 = .int sp) (hroom : f.2.1 + 1000 ≤ BM) (hz : ez E ≤ f.2.2.2) (hcb : f.2.2.2 ≤ f.1)
    (h5 : ¬ inB i T.length → ∀ f', Gw f f' 400 → Q (.inr 35) s f') (h51 : inB i T.length → ¬ inB j (T.getD i.toNatClampNeg []).length → ∀ f', Gw f f' 400 → Q (.inr 9) (cwrong s 5 sp) f') (hgr : inB i T.length → inB j (T.getD i.toNatClampNeg []).length → zmk (zT (T.set i.toNatClampNeg ((T.getD i.toNatClampNeg []).set j.toNatClampNeg (zv v)))) = .inl 2 → ∀ f', Gw f f' 400 → Q (.inr 9) (cwrong s 2 fp) f')
    (hok : inB i T.length → inB j (T.getD i.toNatClampNeg []).length → ∀ t, zmk (zT (T.set i.toNatClampNeg ((T.getD i.toNatClampNeg []).set j.toNatClampNeg (zv v)))) = .inr t → ¬ zk t = 0 → ∀ c q f', rcT f'.2.2.1 (ez E) f'.1 true t (fun _ => .ref q) → c ≤ 2 * zm t → Gw f f' c → Q (.inl (some (.ref q))) s f') : EvC l E w (d + 4) MX6_changed [.ref (w.1 6), .ref p, .int i, .int (nI m), .int j, .ref b1] s f Q := by
  have hz1 : ez E ≤ f.1 := Nat.le_trans hz hcb
  have hb1 : b1 < f.1 := Nat.lt_of_lt_of_le hb hcb
  obtain ⟨z1, z2, z3⟩ : T.length ≤ 20 ∧ zis T ≤ 200 ∧ ∀ r ∈ T, r.length ≤ 64 := wx
  obtain ⟨p', q, v1, v2, v3, v4, v5, v6, v7, v8⟩ := rcT.tab hx
  cases v1
  have hp1 : p < f.1 := Nat.lt_of_lt_of_le v2 hcb
  have hq1 : q < f.1 := Nat.lt_of_lt_of_le v5 hcb
  refine eX6_changed hst ⟨hx.isT, br_f (by rw [v3.1]; intro z; cases z) ⟨hx.isT, br_t v3.1 ⟨v3.1, v3, q, v4, 11, v6, ?_⟩⟩⟩
  rw [v7, nI_clamp (by omega)]
  refine ⟨i32_nn _ (by omega), by omega, (by show f.2.1 + 1 + T.length ≤ BM; omega), fun a15 f16 e1 e2 => ?_⟩
  subst e1 e2
  refine dn (P := fun k => ∀ fk, TB E f T.length (T.take k) (T.length + 1) fk → ExC l E w (d + 4) MX6_changed 76 [some (.ref (w.1 6)), none, some (.int i), some (.int (nI m)), some (.int j), some (.ref b1), some (.ref p), some (.ref f.1), some (.int (nI k))] [] s fk Q) T.length ?_ (fun k hk ih => ?_) (fnewA f 11 T.length) (TB.start E f T.length)
  · intro fk hB
    rw [List.take_length] at hB
    have g := hB.1
    have hbud := g.2.2.1
    refine vX6_changed_76 ⟨11, hB.2.2.1, ?_⟩
    rw [hB.2.2.2.1]
    refine pk_le T.length T.length (fun _ => ⟨g.ocE hb1 ho, .ref a26, by rw [g.vlE hb1]; exact h201, rfl, fun e => (by cases e), fun a e => ⟨11, by decide, hB.2.2.1, ?_⟩⟩) (fun c => by omega) rfl rfl
    refine br_c (fun c => ?_) (fun c => ⟨by omega, (by show fk.2.1 + 3 + 222 ≤ BM; omega), fun a11 f10 e => ?_⟩)
    · have hrI := hB.2.2.2.2 i.toNatClampNeg c.2
      have hrl64 := z3 _ (getD_mem [] c.2)
      have hisr := zis_mem (getD_mem (l := T) [] c.2)
      have h51 := h51 c
      have hgr := hgr c
      have hok := hok c
      generalize hrr : T.getD i.toNatClampNeg [] = r at hrI hrl64 h51 hgr hok hisr
      obtain ⟨a38, g1, g2, g3, g4, g5⟩ := hrI.vw
      refine ⟨a38, g1, inB_n hm, g.ocE hb1 ho, sp, by rw [g.vlE hb1]; exact h199, ?_⟩
      rw [nI_clamp (n := m) (by omega), hnum]
      rw [g1] at hrI
      refine eX6_part hst ⟨g3, g2.1, fun i hi => ⟨_, g5 i (by rw [g4] at hi; exact hi)⟩, (by show fk.2.1 + 1 + ln fk a38 ≤ BM; rw [g4]; omega), fun a1 f2 e1 e2 => ?_⟩
      subst e1
      have hI := IA.clone hrI
      rw [← e2] at hI
      obtain ⟨t1, t2, t3⟩ := hI.at
      obtain ⟨u1, u2, u3⟩ := hI.eqs
      have hzk : ez E ≤ fk.1 := Nat.le_trans hz1 g.1
      refine ⟨t1, hzk, t1, ?_⟩
      rw [t2]
      refine br_c (fun c2 => ⟨by rw [u3, g.2.1]; exact Nat.le_trans hcb g.1, fun f5 e => ?_⟩) (fun c2 => ⟨by omega, (by show f2.2.1 + 3 + 222 ≤ BM; omega), fun a11 f10 e => C_wrong hst (Q := Q) (h51 c2 f10 ?_) (fun _ _ _ => rfl)⟩)
      · have hI2 := hI.set c2.2 (zv v)
        rw [← e] at hI2
        obtain ⟨w1, w2, w3⟩ := hI2.eqs
        obtain ⟨y1, y2, y3⟩ := hI2.at
        have hlr : (r.set j.toNatClampNeg (zv v)).length = r.length := List.length_set
        have hB1 := hB.grow hI2.gw
        have gg := hB1.1
        refine ⟨_, rfl, hB1.2.2.1, y1, hzk, ?_⟩
        rw [hB1.2.2.2.1]
        refine br_t c ⟨by rw [gg.2.1]; exact hcb, fun f43 e => ?_⟩
        have hB2 := hB1.setk c.2 (hI2.rI hzk hlr)
        rw [← e] at hB2
        obtain ⟨b1', b2, b3, b4, b5⟩ := hB2
        have hls : (T.set i.toNatClampNeg (r.set j.toNatClampNeg (zv v))).length = T.length := List.length_set
        have hbud2 := b1'.2.2.1
        have hzr := zis_mem (set_memk (l := T) (x := r.set j.toNatClampNeg (zv v)) c.2)
        rw [hlr] at hzr
        refine ⟨b1'.ocE hb1 ho, fp, by rw [b1'.vlE hb1]; exact h198, ?_⟩
        refine C_table hst b3 (b4.trans hls.symm) b2 b5 (by omega) (fun r2 hr => ?_) (by omega) (by have := b1'.1; rw [b1'.2.1]; omega) (fun hz1 f' q1 q2 => ⟨_, rfl, hok c2 _ (zmk_le hz1) (by show ¬ 2 = 0; decide) _ _ f' q1 ?_ (b1'.trans q2)⟩) (fun hz1 f' q2 => hgr c2 (zmk_gt hz1) f' ((b1'.trans q2).le (by omega)))
        · rcases mem_setk hr with hr | rfl
          · exact z3 r2 hr
          · rw [hlr]; exact hrl64
        · show _ ≤ 2 * (4 + 4 * (T.set i.toNatClampNeg (r.set j.toNatClampNeg (zv v))).length + zis (T.set i.toNatClampNeg (r.set j.toNatClampNeg (zv v)))); rw [hls]; omega
      · rw [e]
        exact ((g.trans hI.gw).trans (Gw.exc _)).le (by omega)
    · rw [e]
      exact h5 c _ ((g.trans (Gw.exc _)).le (by omega))
  · intro fk hB
    have hll : (T.take k).length = k := by rw [List.length_take]; omega
    have g := hB.1
    have hbud := g.2.2.1
    refine vX6_changed_76 ⟨11, hB.2.2.1, ?_⟩
    rw [hB.2.2.2.1]
    refine pk_le T.length k (fun c => by omega) (fun _ => ⟨g.ocE hp1 v3, q, by rw [g.vlE hp1]; exact v4, 11, by decide, (g.tgE hq1).trans v6, ?_⟩) rfl rfl
    rw [g.lnE hq1, v7, nI_clamp (n := k) (by omega)]
    obtain ⟨r, g1, g2, g3, g4, g5⟩ := (v8 k hk).vw
    have hrl : r < f.1 := Nat.lt_of_lt_of_le g2.2 hcb
    refine br_t (inB_n hk) ⟨r, by rw [g.vlE hq1]; exact g1, hB.2.2.1, (g.tgE hrl).trans g3, g2.1, br_t (inB_n hk) ⟨by rw [g.2.1]; exact hcb, fun f55 e => ?_⟩⟩
    have := hB.put (hB.old hcb (by rw [← g1]; exact v8 k hk))
    rw [hll, ← take_succ_getD T [] k hk] at this
    rw [e, nI_1]
    exact ih _ this
end CCh
