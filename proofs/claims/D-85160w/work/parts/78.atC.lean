/-! THE COMPONENT: places -/
theorem zix_y {v : Int32} {n : Nat} (h : inB v n) : zix v n = some v.toNatClampNeg := by
  unfold zix
  rw [if_neg h.1, if_pos h.2]
theorem zix_n {v : Int32} {n : Nat} (h : ¬ inB v n) : zix v n = none := by
  unfold zix
  split
  · rfl
  · rename_i h1
    rw [if_neg (fun z => h ⟨h1, z⟩)]
theorem zel_R (a : List Int32) (i : Nat) : zel (zR a) i = zI (a.getD i 0) := by
  show (a.map (fun v => (Lean.RArray.leaf (.inl v) : Th))).getD i (zI 0) = _
  by_cases h : i < a.length
  · exact getD_map (fun v => (Lean.RArray.leaf (.inl v) : Th)) a 0 (zI 0) h
  · rw [getD_ge _ _ (by rw [List.length_map]; omega), getD_ge a 0 (by omega)]
theorem zel_T (a : List (List Int32)) {i : Nat} (h : i < a.length) : zel (zT a) i = zR (a.getD i []) := getD_map (fun r => (Lean.RArray.leaf (.inr (.inl r)) : Th)) a [] (zI 0) h
theorem zel_P (l : List Th) (i : Nat) : zel (zP l) i = l.getD i (zI 0) := by
  show (ze (zP l)).getD i (zI 0) = _
  rw [zl_zP]
theorem zof_R (a L : List Int32) : zof 1 ((L.map Int32.toNatClampNeg).map (zel (zR a))) = zR (L.map (fun v => a.getD v.toNatClampNeg 0)) := by
  show zR (((L.map Int32.toNatClampNeg).map (zel (zR a))).map zv) = _
  rw [List.map_map, List.map_map]
  refine congrArg zR (List.map_congr_left fun v _ => ?_)
  show zv (zel (zR a) v.toNatClampNeg) = _
  rw [zel_R]; rfl
theorem zof_T (a : List (List Int32)) (L : List Int32) (h : ∀ v ∈ L, inB v a.length) : zof 2 ((L.map Int32.toNatClampNeg).map (zel (zT a))) = zT (L.map (fun v => a.getD v.toNatClampNeg [])) := by
  show zT (((L.map Int32.toNatClampNeg).map (zel (zT a))).map zr) = _
  rw [List.map_map, List.map_map]
  refine congrArg zT (List.map_congr_left fun v hv => ?_)
  show zr (zel (zT a) v.toNatClampNeg) = _
  rw [zel_T a (h v hv).2]; rfl
theorem zof_P (l : List Th) (L : List Int32) : zof 3 ((L.map Int32.toNatClampNeg).map (zel (zP l))) = zP (L.map (fun v => l.getD v.toNatClampNeg (zI 0))) := by
  show zP _ = _
  rw [List.map_map]
  congr 1
  refine List.map_congr_left fun v _ => ?_
  exact zel_P l _
theorem take_map_succ {α β : Type} (g : α → β) (L : List α) (x : α) (k : Nat) (hk : k < L.length) : (L.take (k + 1)).map g = (L.take k).map g ++ [g (L.getD k x)] := by
  rw [take_succ_getD L x k hk, List.map_append]; rfl
theorem mem_take_succ {α : Type} {L : List α} {x : α} {k : Nat} (hk : k < L.length) {P : α → Prop} (h : ∀ v ∈ L.take k, P v) (hx : P (L.getD k x)) : ∀ v ∈ L.take (k + 1), P v := by
  intro v hv
  rw [take_succ_getD L x k hk] at hv
  rcases List.mem_append.mp hv with h1 | h1
  · exact h v h1
  · rcases List.mem_cons.mp h1 with rfl | h2
    · exact hx
    · cases h2
section CAt
variable {l : Launch} {E : EN} {w : CO} {d : Nat} {s : CS} {f : RH} {Q : KO → CS → RH → Prop}
theorem C_someR (hst : l.stackTraces = false) {p q : Nat} {a L : List Int32} {place : Int32} (hx : RT E f (.ref p) (zR a)) (ha : a.length ≤ 64) (hL : rcI f.2.2.1 (ez E) f.1 (.ref q) L) (hl : L.length ≤ 64) (hroom : f.2.1 + 400 ≤ BM) (hcb : f.2.2.2 ≤ f.1) (hz : ez E ≤ f.2.2.2)
    (h0 : (∃ v ∈ L, ¬ inB v a.length) → ∀ f', Gw f f' 300 → Q (.inr 35) s f')
    (h1 : (∀ v ∈ L, inB v a.length) → ∀ p f', rcT f'.2.2.1 (ez E) f'.1 true (zR (L.map (fun v => a.getD v.toNatClampNeg 0))) (fun _ => .ref p) → Gw f f' (L.length + 3) → Q (.inl (some (.ref p))) s f') : EvC l E w (d + 2) MX6_some [.ref (w.1 6), .ref p, .ref q, .int place] s f Q := by
  obtain ⟨q', x1, x2, x3, x4, x5⟩ := hL.vw
  cases x1
  obtain ⟨p', pa, v1, v2, v3, v4, v5, v6, v7, v8, v9⟩ := rcT.row hx
  cases v1
  have hp : p < f.1 := Nat.lt_of_lt_of_le v2 hcb
  have hpa : pa < f.1 := Nat.lt_of_lt_of_le v5.2 hcb
  refine eX6_some hst ⟨0, x3, fun y2 ey => ⟨hx.isT, br_t v3.1 ⟨v3.1, ?_⟩⟩⟩
  rw [x4] at ey
  subst ey
  rw [nI_clamp (by omega)]
  refine ⟨i32_nn _ (by omega), by omega, (by show f.2.1 + 1 + L.length ≤ BM; omega), fun a4 f5 e1 e2 => ?_⟩
  subst e1 e2
  rw [fnewA0]
  refine dn (P := fun k => (∀ v ∈ L.take k, inB v a.length) → ExC l E w (d + 2) MX6_some 26 [none, none, some (.ref q), none, some (.int (nI L.length)), some (.ref p), some (.ref f.1), some (.int (nI k))] [] s (fA f L.length ((L.take k).map (fun v => a.getD v.toNatClampNeg 0))) Q) L.length ?_ (fun k hk ih => ?_) (fun v hv => by rw [List.take_zero] at hv; cases hv)
  · intro hb
    rw [List.take_length] at hb ⊢
    refine vX6_some_26 (pk_le L.length L.length (fun _ => ?_) (fun c => by omega) rfl rfl)
    have g := fA_gw f L.length (L.map (fun v => a.getD v.toNatClampNeg 0))
    exact C_newRow hst (fA_rI f L.length _ (Nat.le_trans hz hcb) (List.length_map ..)) (by have := g.2.2.1; omega) (Nat.le_succ_of_le hcb) (fun f' q1 q2 => h1 hb _ f' q1 ((g.trans q2).le (by omega)))
  · intro hb
    have hll : ((L.take k).map (fun v => a.getD v.toNatClampNeg 0)).length = k := by rw [List.length_map, List.length_take]; omega
    have g := fA_gw f L.length ((L.take k).map (fun v => a.getD v.toNatClampNeg 0))
    have hm := take_map_succ (fun v : Int32 => a.getD v.toNatClampNeg 0) L 0 k hk
    refine vX6_some_26 (pk_le L.length k (fun c => by omega) (fun _ => ⟨g.ocE hp v3, pa, by rw [g.vlE hp]; exact v4, (g.tgE x2.2).trans x3, ?_⟩) rfl rfl)
    rw [g.lnE x2.2, x4, nI_clamp (by omega)]
    refine br_t (inB_n hk) ⟨L.getD k 0, by rw [g.vlE x2.2]; exact x5 k hk, (g.tgE hpa).trans v6, ?_⟩
    rw [g.lnE hpa, v7]
    refine br_c (fun c => ⟨a.getD (L.getD k 0).toNatClampNeg 0, by rw [g.vlE hpa]; exact v8 _ c.2, (fA_tg f _ _).1, ?_⟩) (fun c => ⟨by omega, ?_, fun a22 f21 e => ?_⟩)
    · rw [(fA_tg f _ _).2.1]
      refine br_t (inB_n hk) ⟨hcb, fun f18 e => ?_⟩
      have := fA_snoc f L.length ((L.take k).map (fun v => a.getD v.toNatClampNeg 0)) (a.getD (L.getD k 0).toNatClampNeg 0)
      rw [hll, ← hm] at this
      rw [e, this, nI_1]
      exact ih (mem_take_succ (x := 0) hk hb c)
    · have := g.2.2.1
      show (fA f L.length _).2.1 + 3 + 222 ≤ BM
      omega
    · rw [e]
      exact h0 ⟨_, getD_mem 0 hk, c⟩ _ ((g.trans (Gw.exc _)).le (by omega))
theorem C_someT (hst : l.stackTraces = false) {p q : Nat} {a : List (List Int32)} {L : List Int32} {place : Int32} (hx : RT E f (.ref p) (zT a)) (ha : a.length ≤ 20) (h64 : ∀ r ∈ a, r.length ≤ 64) (hL : rcI f.2.2.1 (ez E) f.1 (.ref q) L) (hl : L.length ≤ 64) (hroom : f.2.1 + 600 ≤ BM) (hcb : f.2.2.2 ≤ f.1) (hz : ez E ≤ f.2.2.2)
    (h0 : (∃ v ∈ L, ¬ inB v a.length) → ∀ f', Gw f f' 300 → Q (.inr 35) s f')
    (h1 : (∀ v ∈ L, inB v a.length) → zgt (zT (L.map (fun v => a.getD v.toNatClampNeg []))) = false → ∀ p f', rcT f'.2.2.1 (ez E) f'.1 true (zT (L.map (fun v => a.getD v.toNatClampNeg []))) (fun _ => .ref p) → Gw f f' (4 * L.length + 5) → Q (.inl (some (.ref p))) s f')
    (h2 : (∀ v ∈ L, inB v a.length) → zgt (zT (L.map (fun v => a.getD v.toNatClampNeg []))) = true → ∀ f', Gw f f' 300 → Q (.inr 9) (cwrong s 2 place) f') : EvC l E w (d + 3) MX6_some [.ref (w.1 6), .ref p, .ref q, .int place] s f Q := by
  obtain ⟨q', x1, x2, x3, x4, x5⟩ := hL.vw
  cases x1
  obtain ⟨p', pa, v1, v2, v3, v4, v5, v6, v7, v8⟩ := rcT.tab hx
  cases v1
  have hp : p < f.1 := Nat.lt_of_lt_of_le v2 hcb
  have hpa : pa < f.1 := Nat.lt_of_lt_of_le v5 hcb
  refine eX6_some hst ⟨0, x3, fun y2 ey => ⟨hx.isT, br_f (by rw [v3.1]; intro z; cases z) ⟨hx.isT, br_t v3.1 ⟨v3.1, ?_⟩⟩⟩⟩
  rw [x4] at ey
  subst ey
  rw [nI_clamp (by omega)]
  refine ⟨i32_nn _ (by omega), by omega, (by show f.2.1 + 1 + L.length ≤ BM; omega), fun a4 f5 e1 e2 => ?_⟩
  subst e1 e2
  refine dn (P := fun k => ∀ fk, (∀ v ∈ L.take k, inB v a.length) → TB E f L.length ((L.take k).map (fun v => a.getD v.toNatClampNeg [])) (L.length + 1) fk → ExC l E w (d + 3) MX6_some 87 [some (.ref (w.1 6)), none, some (.ref q), some (.int place), some (.int (nI L.length)), some (.ref p), some (.ref f.1), some (.int (nI k))] [] s fk Q) L.length ?_ (fun k hk ih => ?_) (fnewA f 11 L.length) (fun v hv => by rw [List.take_zero] at hv; cases hv) (TB.start E f L.length)
  · intro fk hb hB
    rw [List.take_length] at hb hB
    obtain ⟨b1, b2, b3, b4, b5⟩ := hB
    have hbud := b1.2.2.1
    have hlm : (L.map (fun v : Int32 => a.getD v.toNatClampNeg [])).length = L.length := List.length_map ..
    refine vX6_some_87 (pk_le L.length L.length (fun _ => ?_) (fun c => by omega) rfl rfl)
    refine C_table hst b3 (b4.trans hlm.symm) b2 b5 (by omega) (fun r hr => ?_) (by omega) (by have := b1.1; rw [b1.2.1]; omega) (fun hz1 f' q1 q2 => ⟨_, rfl, h1 hb hz1 _ f' q1 ((b1.trans q2).le (by omega))⟩) (fun hz1 f' q2 => h2 hb hz1 f' ((b1.trans q2).le (by omega)))
    obtain ⟨v, hv, rfl⟩ := List.mem_map.mp hr
    exact h64 _ (getD_mem [] (hb v hv).2)
  · intro fk hb hB
    have hll : ((L.take k).map (fun v : Int32 => a.getD v.toNatClampNeg [])).length = k := by rw [List.length_map, List.length_take]; omega
    have g := hB.1
    have hm := take_map_succ (fun v : Int32 => a.getD v.toNatClampNeg []) L 0 k hk
    refine vX6_some_87 (pk_le L.length k (fun c => by omega) (fun _ => ⟨g.ocE hp v3, pa, by rw [g.vlE hp]; exact v4, (g.tgE x2.2).trans x3, ?_⟩) rfl rfl)
    rw [g.lnE x2.2, x4, nI_clamp (by omega)]
    refine br_t (inB_n hk) ⟨L.getD k 0, by rw [g.vlE x2.2]; exact x5 k hk, 11, by decide, (g.tgE hpa).trans v6, ?_⟩
    rw [g.lnE hpa, v7]
    refine br_c (fun c => ?_) (fun c => ⟨by omega, ?_, fun a22 f21 e => ?_⟩)
    · have hr := v8 _ c.2
      obtain ⟨r, g1, g2, g3, g4, g5⟩ := hr.vw
      have hrl : r < f.1 := Nat.lt_of_lt_of_le g2.2 hcb
      refine ⟨r, by rw [g.vlE hpa]; exact g1, hB.2.2.1, (g.tgE hrl).trans g3, g2.1, ?_⟩
      rw [hB.2.2.2.1]
      refine br_t (inB_n hk) ⟨(by rw [g.2.1]; exact hcb), fun f32 e => ?_⟩
      have := hB.put (hB.old hcb (by rw [← g1]; exact hr))
      rw [hll, ← hm] at this
      rw [e, nI_1]
      exact ih _ (mem_take_succ (x := 0) hk hb c) this
    · have := g.2.2.1
      show fk.2.1 + 3 + 222 ≤ BM
      omega
    · rw [e]
      exact h0 ⟨_, getD_mem 0 hk, c⟩ _ ((g.trans (Gw.exc _)).le (by omega))
theorem C_someP (hst : l.stackTraces = false) {p q : Nat} {a : List Th} {L : List Int32} {place : Int32} (hx : RT E f (.ref p) (zP a)) (hZ : ZW (zP a)) (hL : rcI f.2.2.1 (ez E) f.1 (.ref q) L) (hl : L.length ≤ 64) (hroom : f.2.1 + 600 ≤ BM) (hcb : f.2.2.2 ≤ f.1) (hz : ez E ≤ f.2.2.2)
    (h0 : (∃ v ∈ L, ¬ inB v a.length) → ∀ f', Gw f f' 300 → Q (.inr 35) s f')
    (h1 : (∀ v ∈ L, inB v a.length) → zgt (zP (L.map (fun v => a.getD v.toNatClampNeg (zI 0)))) = false → ∀ p f', rcT f'.2.2.1 (ez E) f'.1 true (zP (L.map (fun v => a.getD v.toNatClampNeg (zI 0)))) (fun _ => .ref p) → Gw f f' (L.length + 5) → Q (.inl (some (.ref p))) s f')
    (h2 : (∀ v ∈ L, inB v a.length) → zgt (zP (L.map (fun v => a.getD v.toNatClampNeg (zI 0)))) = true → ∀ f', Gw f f' 300 → Q (.inr 9) (cwrong s 2 place) f') : EvC l E w (d + 4) MX6_some [.ref (w.1 6), .ref p, .ref q, .int place] s f Q := by
  obtain ⟨z1, z2, z3, z4⟩ := zw_pack.mp hZ
  obtain ⟨q', x1, x2, x3, x4, x5⟩ := hL.vw
  cases x1
  obtain ⟨p', pa, v1, v2, v3, v4, v5, v6, v7, v8, v9, v10⟩ := rcT.pack hx
  cases v1
  have hp : p < f.1 := Nat.lt_of_lt_of_le v2 hcb
  have hpa : pa < f.1 := Nat.lt_of_lt_of_le v5 hcb
  refine eX6_some hst ⟨0, x3, fun y2 ey => ⟨hx.isT, br_f (by rw [v3.1]; intro z; cases z) ⟨hx.isT, br_f (by rw [v3.1]; intro z; cases z) ?_⟩⟩⟩
  rw [x4] at ey
  subst ey
  rw [nI_clamp (by omega)]
  refine ⟨i32_nn _ (by omega), by omega, (by show f.2.1 + 1 + L.length ≤ BM; omega), fun a4 f5 e1 e2 => ?_⟩
  subst e1 e2
  refine dn (P := fun k => ∀ fk, (∀ v ∈ L.take k, inB v a.length) → PB E f L.length ((L.take k).map (fun v => a.getD v.toNatClampNeg (zI 0))) (L.length + 1) fk → ExC l E w (d + 4) MX6_some 133 [some (.ref (w.1 6)), some (.ref p), some (.ref q), some (.int place), some (.int (nI L.length)), some (.ref f.1), some (.int (nI k)), none] [] s fk Q) L.length ?_ (fun k hk ih => ?_) (fnewA f 4 L.length) (fun v hv => by rw [List.take_zero] at hv; cases hv) (PB.start E f L.length)
  · intro fk hb hB
    rw [List.take_length] at hb hB
    obtain ⟨b1, b2, b3, b4, b5⟩ := hB
    have hbud := b1.2.2.1
    have hlm : (L.map (fun v : Int32 => a.getD v.toNatClampNeg (zI 0))).length = L.length := List.length_map ..
    refine vX6_some_133 (pk_le L.length L.length (fun _ => ?_) (fun c => by omega) rfl rfl)
    refine C_pack hst b3 (b4.trans hlm.symm) b2 (fun i hi => (b5 i hi).rep b1 hcb) (fun r hr => ?_) (by omega) (by omega) (by have := b1.1; rw [b1.2.1]; omega) (fun hz1 f' q1 q2 => ⟨_, rfl, h1 hb hz1 _ f' q1 ((b1.trans q2).le (by omega))⟩) (fun hz1 f' q2 => h2 hb hz1 f' ((b1.trans q2).le (by omega)))
    obtain ⟨v, hv, rfl⟩ := List.mem_map.mp hr
    exact z4 _ (getD_mem (zI 0) (hb v hv).2)
  · intro fk hb hB
    have hll : ((L.take k).map (fun v : Int32 => a.getD v.toNatClampNeg (zI 0))).length = k := by rw [List.length_map, List.length_take]; omega
    have g := hB.1
    have hm := take_map_succ (fun v : Int32 => a.getD v.toNatClampNeg (zI 0)) L 0 k hk
    refine vX6_some_133 (pk_le L.length k (fun c => by omega) (fun _ => ⟨(g.tgE hp).trans v3.1, g.ocE hp v3, pa, by rw [g.vlE hp]; exact v4, (g.tgE x2.2).trans x3, ?_⟩) rfl rfl)
    rw [g.lnE x2.2, x4, nI_clamp (by omega)]
    refine br_t (inB_n hk) ⟨L.getD k 0, by rw [g.vlE x2.2]; exact x5 k hk, 4, by decide, (g.tgE hpa).trans v6, ?_⟩
    rw [g.lnE hpa, v7]
    refine br_c (fun c => ?_) (fun c => ⟨by omega, ?_, fun a22 f21 e => ?_⟩)
    · have hr := v10 _ c.2
      obtain ⟨r, g1, g2, g3⟩ := hr.ocl
      have hpe : PE E f fk (.ref r) (a.getD (L.getD k 0).toNatClampNeg (zI 0)) := Or.inl (by rw [← g1]; exact hr)
      obtain ⟨kk, t1, t2⟩ := hpe.tag g hcb
      refine ⟨r, by rw [g.vlE hpa]; exact g1, kk, hB.2.2.1, t1, t2, ?_⟩
      rw [hB.2.2.2.1]
      refine br_t (inB_n hk) ⟨(by rw [g.2.1]; exact hcb), fun f32 e => ?_⟩
      have := hB.put hpe
      rw [hll, ← hm] at this
      rw [e, nI_1]
      exact ih _ (mem_take_succ (x := 0) hk hb c) this
    · have := g.2.2.1
      show fk.2.1 + 3 + 222 ≤ BM
      omega
    · rw [e]
      exact h0 ⟨_, getD_mem 0 hk, c⟩ _ ((g.trans (Gw.exc _)).le (by omega))
/-- those of some places -/
theorem C_some (hst : l.stackTraces = false) {x : Th} {p q : Nat} {L : List Int32} {place : Int32} (hx : RT E f (.ref p) x) (hk : ¬ zk x = 0) (hZ : ZW x) (hL : rcI f.2.2.1 (ez E) f.1 (.ref q) L) (hl : L.length ≤ 64) (hroom : f.2.1 + 600 ≤ BM) (hcb : f.2.2.2 ≤ f.1) (hz : ez E ≤ f.2.2.2)
    (h0 : zixs L (zn x) = none → ∀ f', Gw f f' 300 → Q (.inr 35) s f')
    (h1 : ∀ t, zixs L (zn x) = some (L.map Int32.toNatClampNeg) → zof (zk x) ((L.map Int32.toNatClampNeg).map (zel x)) = t → zmk t = .inr t → ZW t → ¬ zk t = 0 → zn t = L.length → ∀ p f', rcT f'.2.2.1 (ez E) f'.1 true t (fun _ => .ref p) → Gw f f' (zm t + 1) → Q (.inl (some (.ref p))) s f')
    (h2 : zixs L (zn x) = some (L.map Int32.toNatClampNeg) → zmk (zof (zk x) ((L.map Int32.toNatClampNeg).map (zel x))) = .inl 2 → ∀ f', Gw f f' 300 → Q (.inr 9) (cwrong s 2 place) f') : EvC l E w (d + 4) MX6_some [.ref (w.1 6), .ref p, .ref q, .int place] s f Q := by
  have hno : (∃ v ∈ L, ¬ inB v (zn x)) → zixs L (zn x) = none := fun ⟨v, hv, hb⟩ => zixs_none ⟨v, hv, zix_n hb⟩
  have hyes : (∀ v ∈ L, inB v (zn x)) → zixs L (zn x) = some (L.map Int32.toNatClampNeg) := fun h => zixs_some h
  have hlm : ∀ {β : Type} (g : Int32 → β), (L.map g).length = L.length := fun g => List.length_map ..
  rcases zcases hZ with ⟨v, rfl⟩ | ⟨a, rfl, z1⟩ | ⟨a, rfl, z1, z2, z3⟩ | ⟨a, rfl, z1, z2, z3, z4⟩
  · exact absurd rfl hk
  · refine C_someR (d := d + 2) hst hx z1 hL hl (by omega) hcb hz (fun hb => h0 (hno hb)) (fun hb p f' q1 q2 => ?_)
    have hw : ZW (zR (L.map (fun v => a.getD v.toNatClampNeg 0))) := by show (L.map _).length ≤ 64; rw [hlm]; exact hl
    exact h1 _ (hyes hb) (zof_R a L) (zmk_ok hw) hw (by show ¬ 1 = 0; decide) (hlm _) p f' q1 (q2.le (by show _ ≤ 4 + (L.map _).length + 1; rw [hlm]; omega))
  · refine C_someT (d := d + 1) hst hx z1 z3 hL hl (by omega) hcb hz (fun hb => h0 (hno hb)) (fun hb hg p f' q1 q2 => ?_) (fun hb hg f' q2 => ?_)
    · have hg' := hg
      rw [zgtT] at hg'
      simp only [Bool.or_eq_false_iff, decide_eq_false_iff_not] at hg'
      have hw : ZW (zT (L.map (fun v => a.getD v.toNatClampNeg []))) := ⟨by omega, by omega, fun r hr => by
        obtain ⟨v, hv, rfl⟩ := List.mem_map.mp hr
        exact z3 _ (getD_mem [] (hb v hv).2)⟩
      exact h1 _ (hyes hb) (zof_T a L hb) (zmk_ok hw) hw (by show ¬ 2 = 0; decide) (hlm _) p f' q1 (q2.le (by show _ ≤ 4 + 4 * (L.map _).length + _ + 1; rw [hlm]; omega))
    · refine h2 (hyes hb) ?_ f' q2
      show zmk (zof 2 _) = _
      rw [zof_T a L hb]
      unfold zmk
      rw [if_pos hg]
  · have hzn : zn (zP a) = a.length := by show (zl (zsp a)).length = _; rw [zl_zsp]
    rw [hzn] at hno hyes h0 h1 h2
    refine C_someP hst hx (zw_pack.mpr ⟨z1, z2, z3, z4⟩) hL hl (by omega) hcb hz (fun hb => h0 (hno hb)) (fun hb hg p f' q1 q2 => ?_) (fun hb hg f' q2 => ?_)
    · have hall : ∀ t ∈ L.map (fun v => a.getD v.toNatClampNeg (zI 0)), ZW t := fun t ht => by
        obtain ⟨v, hv, rfl⟩ := List.mem_map.mp ht
        exact z4 _ (getD_mem (zI 0) (hb v hv).2)
      have hmk : zmk (zP (L.map (fun v => a.getD v.toNatClampNeg (zI 0)))) = .inr (zP (L.map (fun v => a.getD v.toNatClampNeg (zI 0)))) := by
        unfold zmk
        rw [hg]; rfl
      exact h1 _ (hyes hb) (zof_P a L) hmk (zmk_pack hall hmk).2 (by show ¬ 3 = 0; decide) (by show (zl (zsp _)).length = _; rw [zl_zsp]; exact hlm _) p f' q1 (q2.le (by show _ ≤ 4 + 2 * (zl (zsp _)).length + 1; rw [zl_zsp, hlm]; omega))
    · refine h2 (hyes hb) ?_ f' q2
      show zmk (zof 3 _) = _
      rw [zof_P a L]
      unfold zmk
      rw [if_pos hg]
/-- a table's row -/
theorem C_trow (hst : l.stackTraces = false) {p : Nat} {k : Int32} {a : List (List Int32)} (hx : RT E f (.ref p) (zT a)) (ha : a.length ≤ 20) (hroom : f.2.1 + 230 ≤ BM) (hcb : f.2.2.2 ≤ f.1)
    (h1 : inB k a.length → ∀ x f', rcT f'.2.2.1 (ez E) f'.1 true (zR (a.getD k.toNatClampNeg [])) (fun _ => .ref x) → f'.2.2.2 = f'.1 → f'.2.1 = f.2.1 → Ext f f' → Q (.inl (some (.ref x))) s f') (h2 : ¬ inB k a.length → ∀ f', f'.2.2.2 = f'.1 → f'.2.1 = f.2.1 + 225 → Ext f f' → Q (.inr 35) s f') : EvC l E w (d + 2) MX33_row [.ref p, .int k] s f Q := by
  obtain ⟨p', pa, v1, v2, v3, v4, v5, v6, v7, v8⟩ := rcT.tab hx
  have hp := rcT.tabz hx
  cases v1
  have hpa : pa < f.1 := Nat.lt_of_lt_of_le v5 hcb
  refine EvC.pcw ?_
  refine eX33_row hst hp v3 v4 v6 (by omega) (by show f.2.1 + 3 + 222 ≤ BM; omega) (fun hb => ?_) (fun hb x f' y1 y2 y3 y4 y5 hlt => ?_) (fun hb f' y3 y4 y5 _ => h2 (by rw [v7] at hb; exact hb) f' y3 y4 y5)
  · rw [v7] at hb
    obtain ⟨r, g1, _⟩ := (v8 _ hb.2).vw
    exact ⟨r, g1⟩
  · rw [v7] at hb
    have hr := v8 _ hb.2
    refine h1 hb x f' ?_ y3 y4 y5
    refine ⟨x, vl f' x, rfl, hlt x _ y1.1, by rw [cellv' y1.1, y1.2], ?_⟩
    rw [y2]
    exact rcI_mono (Nat.le_trans hcb y5.1) (fun b hb => y5.2 b (by omega)) hr
/-- a thing of a thing -/
theorem C_one (hst : l.stackTraces = false) {n md p : Nat} {x : Th} {i place : Int32} {r : Nat ⊕ Th} (hx : RT E f (.ref p) x) (hk : ¬ zk x = 0) (hZ : ZW x) (hcb : f.2.2.2 ≤ f.1) (hroom : f.2.1 + 600 ≤ BM) (h26 : s.1 26 = nI (n + 2)) (h8 : n + 2 ≤ 8380) (h40 : s.1 40 = nI md) (hmd : md ≤ 3000)
    (h0 : ¬ inB i (zn x) → ∀ f', f'.2.1 ≤ f.2.1 + 225 → Q (.inr 35) s f') (h1 : inB i (zn x) → r = .inr (zel x i.toNatClampNeg)) (hQ : ∀ o s' f', (o = .inr 9 ∨ o = .inl none) → cop E n md r place s f o s' (frz f') → Q o s' f') : EvC l E w (d + 3) MX3_one [.ref (w.1 3), .ref p, .int i, .int place] s f Q := by
  have hel : inB i (zn x) → ZW (zel x i.toNatClampNeg) := fun _ => zw_zel hZ _
  rcases zcases hZ with ⟨v, rfl⟩ | ⟨a, rfl, z1⟩ | ⟨a, rfl, z1, z2, z3⟩ | ⟨a, rfl, z1, z2, z3, z4⟩
  · exact absurd rfl hk
  · obtain ⟨p', pa, v1, v2, v3, v4, v5, v6, v7, v8, v9⟩ := rcT.row hx
    cases v1
    refine eX3_one hst ⟨hx.isT, br_t v3.1 ⟨v3.1, v3, pa, v4, v6, ?_⟩⟩
    rw [v7]
    refine br_c (fun c => ⟨a.getD i.toNatClampNeg 0, v8 _ c.2, ?_⟩) (fun c => ⟨by omega, (by show f.2.1 + 3 + 222 ≤ BM; omega), fun a7 f6 e => by rw [e]; exact h0 c _ (Nat.le_refl _)⟩)
    have e := h1 c
    rw [zel_R] at e
    exact C_finIG hst (parts := 2) e (cfr.rf JC n s) (Nat.le_refl _) h26 h8 h40 (fun s' q => ⟨rfl, hQ _ _ _ (Or.inr rfl) q⟩)
  · obtain ⟨p', pa, v1, v2, v3, _⟩ := rcT.tab hx
    cases v1
    refine eX3_one hst ⟨hx.isT, br_f (by rw [v3.1]; intro z; cases z) ⟨hx.isT, br_t v3.1 ⟨v3.1, v3, ?_⟩⟩⟩
    refine C_trow hst hx z1 (by omega) hcb (fun c y f' y1 y2 y3 y4 => ⟨y, rfl, y1.isT, br_f ?_ ?_⟩) (fun c f' y2 y3 y4 => h0 c f' (by omega))
    · obtain ⟨y', q', e1, e2, e3, _⟩ := rcT.row y1
      cases e1
      rw [e3.1]; intro z; cases z
    · have e := h1 c
      have hc := hel c
      rw [zel_T a c.2] at e hc
      refine C_finG hst (parts := 2) (f0 := f) (c := 0) e (cfr.rf JC n s) (by omega) y1 (by show ¬ 1 = 0; decide) hc h26 h8 h40 hmd (by omega) ?_
      rintro o s' (rfl | rfl) q
      · exact hQ _ _ _ (Or.inl rfl) q
      · exact ⟨rfl, hQ _ _ _ (Or.inr rfl) q⟩
  · obtain ⟨p', pa, v1, v2, v3, v4, v5, v6, v7, v8, v9, v10⟩ := rcT.pack hx
    cases v1
    have hzn : zn (zP a) = a.length := by show (zl (zsp a)).length = _; rw [zl_zsp]
    rw [hzn] at h0 h1 hel
    refine eX3_one hst ⟨hx.isT, br_f (by rw [v3.1]; intro z; cases z) ⟨hx.isT, br_f (by rw [v3.1]; intro z; cases z) ⟨v3.1, v3, pa, v4, 4, by decide, v6, ?_⟩⟩⟩
    rw [v7]
    refine br_c (fun c => ?_) (fun c => ⟨by omega, (by show f.2.1 + 3 + 222 ≤ BM; omega), fun a7 f6 e => by rw [e]; exact h0 c _ (Nat.le_refl _)⟩)
    have e := h1 c
    have hr := v10 _ c.2
    have hc := hel c
    rw [zel_P] at e hc
    obtain ⟨y, y1, y2, y3⟩ := hr.ocl
    refine ⟨y, y1, by rw [← y1]; exact hr.isT, ?_⟩
    generalize hg : a.getD i.toNatClampNeg (zI 0) = t at e hr hc y3
    rw [y1] at hr
    by_cases h0k : zk t = 0
    · rw [zk0 h0k] at hr e
      obtain ⟨y', e1, e2, e3, e4⟩ := rcT.whole hr
      cases e1
      exact br_t e3.1 ⟨e3.1, e3, _, e4, C_finIG hst (parts := 2) e (cfr.rf JC n s) (Nat.le_refl _) h26 h8 h40 (fun s' q => ⟨rfl, hQ _ _ _ (Or.inr rfl) q⟩)⟩
    · rw [if_neg h0k] at y3
      refine br_f (by rw [y3.1]; rcases zk_c t with e | e | e | e <;> first | exact absurd e h0k | (rw [e]; intro z; cases z)) ?_
      refine C_finG hst (parts := 2) (f0 := f) (c := 0) e (cfr.rf JC n s) (Nat.le_refl _) (rcT_up hcb hr) h0k hc h26 h8 h40 hmd (by omega) ?_
      rintro o s' (rfl | rfl) q
      · exact hQ _ _ _ (Or.inl rfl) q
      · exact ⟨rfl, hQ _ _ _ (Or.inr rfl) q⟩
/-- X [I] -/
theorem C_at (hst : l.stackTraces = false) {n md : Nat} {x i : Th} {place : Int32} (h : COk E n md [x, i] s f) (hQ : ∀ o s' f', cop E n md (zindex x i) place s f o s' f' → Q o s' f') : EvC l E w (d + 5) MX3_at [.ref (w.1 3), .int place] s f Q := by
  obtain ⟨hx, hi, wx, wi, h26, h83⟩ := h.v2
  obtain ⟨⟨-, -, h40, hmd⟩, ⟨hr, hz, hcb⟩, -, -⟩ := h
  refine EvC.pfrz (eX3_at hst ?_)
  rw [h26, nI_s2, show nI (n + 2) - 1 = nI (n + 1) from nI_pred (n + 1), nI_clamp (by omega), nI_clamp (by omega)]
  refine ⟨inB_n (by omega), _, rfl, hx.isR, inB_n (by omega), _, rfl, hi.isR, fun e1 => ?_, fun a3 e1 => ?_⟩
  · rcases hx.cls with ⟨c0, c1, c2⟩ | ⟨p, c1, _⟩
    · exact C_finW hst (k := 3) (by unfold zindex; rw [if_pos (Or.inl c0)]) rfl (cfr.rf JC n s) h40 (by omega) hQ
    · rw [e1] at c1; cases c1
  · rcases hx.cls with ⟨c0, c1, c2⟩ | ⟨p, c1, c2, c3, c4, c5⟩
    · rw [e1] at c1; cases c1
    rw [e1] at c1 c5
    cases c1
    refine ⟨fun e2 => ?_, fun a6 e2 => ?_⟩
    · rcases hi.cls with ⟨i0, i1, i2⟩ | ⟨q, i1, _⟩
      · have hno : ¬ (zk x = 0 ∨ 1 < zk i) := by omega
        have hzi := zindex_i hno i0
        refine ⟨inB_n (by omega), ?_⟩
        rw [i2]
        refine C_one hst (r := zindex x i) c5 c3 wx hcb (by omega) h26 (by omega) h40 hmd (fun c f' hb => Or.inl ⟨rfl, fun a9 => ?_⟩) (fun c => hzi.1 _ (zix_y c)) ?_
        · exact C_finW hst (k := 5) (hzi.2 (zix_n c)) rfl (cfr.rf JC n s) h40 (by omega) hQ
        · rintro o s' f' (rfl | rfl) q
          · exact Or.inr ⟨rfl, hQ _ _ _ q⟩
          · exact ⟨rfl, hQ _ _ _ q⟩
      · rw [e2] at i1; cases i1
    · rcases hi.cls with ⟨i0, i1, i2⟩ | ⟨q, i1, i2, i3, i4, i5⟩
      · rw [e2] at i1; cases i1
      rw [e2] at i1 i5
      cases i1
      refine ⟨i5.isT, ?_⟩
      by_cases k1 : zk i = 1
      · have hno : ¬ (zk x = 0 ∨ 1 < zk i) := by omega
        have hzi := zindex_r hno i3
        rw [zk1 k1] at i5 wi
        obtain ⟨q', qa, v1, v2, v3, v4, v5, v6, v7, v8, v9⟩ := rcT.row i5
        cases v1
        refine br_t v3.1 ⟨v3.1, v3, qa, v4, ?_⟩
        refine C_some hst c5 c3 wx (rcI_up hcb v9) wi (by omega) hcb hz (fun h0 f' g => Or.inl ⟨rfl, fun a22 => ?_⟩) (fun t hk1 hk2 hk3 hw hk4 hzn p f' q1 q2 => ⟨p, rfl, ?_⟩) (fun hk1 hk2 f' g => Or.inr ⟨rfl, ?_⟩)
        · have := g.2.2.1
          exact C_finW hst (k := 5) (hzi.2 h0) rfl (cfr.rf JC n s) h40 (by omega) hQ
        · have hzm : 4 ≤ zm t := by
            rcases zcases hw with ⟨v, rfl⟩ | ⟨a, rfl, z1⟩ | ⟨a, rfl, z1, z2, z3⟩ | ⟨a, rfl, z1, z2, z3, z4⟩
            · exact absurd rfl hk4
            · show 4 ≤ 4 + a.length; omega
            · show 4 ≤ 4 + 4 * a.length + zis a; omega
            · show 4 ≤ 4 + 2 * (zl (zsp a)).length; omega
          refine C_finG hst (parts := 2) (f0 := f) ((hzi.1 _ hk1).trans (by rw [hk2, hk3])) (cfr.rf JC n s) q2.2.2.1 q1 hk4 hw h26 (by omega) h40 hmd (by omega) ?_
          rintro o s' (rfl | rfl) q
          · exact Or.inr ⟨rfl, hQ _ _ _ q⟩
          · exact ⟨rfl, hQ _ _ _ q⟩
        · refine hQ _ _ _ (cop.tr (k := 2) ((hzi.1 _ hk1).trans hk2) rfl h40 ?_)
          have := g.2.2.1
          omega
      · refine br_f ?_ ?_
        · intro z
          have := i4.1.symm.trans z
          injection this with this
          injection this with this
          omega
        · exact C_finW hst (k := 3) (by unfold zindex; rw [if_pos (Or.inr (by omega))]) rfl (cfr.rf JC n s) h40 (by omega) hQ
end CAt
