/-! THE COMPONENT: pad, outer -/
section CPa
variable {l : Launch} {E : EN} {w : CO} {d : Nat} {s : CS} {f : RH} {Q : KO → CS → RH → Prop}
/-- a grid in the making: what its cells hold -/
def GM (f0 : RH) (N W : Nat) (G : Nat → Nat → Int32) (f : RH) : Prop := Gw f0 f (N + 1 + N * (W + 1)) ∧ f.1 = f0.1 + 1 + N ∧ (tg f f0.1 = some (.inr 11) ∧ ln f f0.1 = N ∧ ∀ i, i < N → vl f f0.1 i = .ref (f0.1 + 1 + i)) ∧ ∀ i, i < N → tg f (f0.1 + 1 + i) = some (.inr 0) ∧ ln f (f0.1 + 1 + i) = W ∧ ∀ j, j < W → vl f (f0.1 + 1 + i) j = .int (G i j)
theorem GM.start (f0 : RH) (N W : Nat) : GM f0 N W (fun _ _ => 0) (fmu f0 N W N) := by
  obtain ⟨g1, g2, g3, g4, g5⟩ := fmu_vw f0 N W N
  exact ⟨g1, (fmu_sz f0 N W N).1, ⟨g3, g4, fun i hi => (g5 i hi).1⟩, fun i hi => ⟨(g5 i hi).2.2.1, (g5 i hi).2.2.2.1, fun j _ => (g5 i hi).2.2.2.2 j⟩⟩
theorem GM.ch {f0 f f' : RH} {N W i0 : Nat} {G G' : Nat → Nat → Int32} (h : GM f0 N W G f) (hi0 : i0 < N) (e1 : f'.1 = f.1) (e2 : f'.2.1 = f.2.1) (e3 : f'.2.2.2 = f.2.2.2) (hne : ∀ b, b ≠ f0.1 + 1 + i0 → f'.2.2.1 b = f.2.2.1 b) (ht : tg f' (f0.1 + 1 + i0) = some (.inr 0) ∧ ln f' (f0.1 + 1 + i0) = W) (hv : ∀ j, j < W → vl f' (f0.1 + 1 + i0) j = .int (G' i0 j)) (hG : ∀ i, i < N → i ≠ i0 → ∀ j, j < W → G' i j = G i j) : GM f0 N W G' f' := by
  obtain ⟨⟨g1, g2, g3, g4⟩, h2, ⟨a1, a2, a3⟩, h4⟩ := h
  have hv0 : f'.2.2.1 f0.1 = f.2.2.1 f0.1 := hne _ (by omega)
  have q0 : tg f' f0.1 = tg f f0.1 ∧ ln f' f0.1 = ln f f0.1 ∧ vl f' f0.1 = vl f f0.1 := by unfold tg ln vl; rw [hv0]; exact ⟨rfl, rfl, rfl⟩
  refine ⟨⟨by omega, e3.trans g2, by omega, fun a ha => (hne a (by omega)).trans (g4 a ha)⟩, e1.trans h2, ⟨q0.1.trans a1, q0.2.1.trans a2, fun i hi => by rw [q0.2.2]; exact a3 i hi⟩, fun i hi => ?_⟩
  by_cases hii : i = i0
  · subst hii
    exact ⟨ht.1, ht.2, hv⟩
  · obtain ⟨b1, b2, b3⟩ := h4 i hi
    have hvi : f'.2.2.1 (f0.1 + 1 + i) = f.2.2.1 (f0.1 + 1 + i) := hne _ (by omega)
    have q : tg f' (f0.1 + 1 + i) = tg f (f0.1 + 1 + i) ∧ ln f' (f0.1 + 1 + i) = ln f (f0.1 + 1 + i) ∧ vl f' (f0.1 + 1 + i) = vl f (f0.1 + 1 + i) := by unfold tg ln vl; rw [hvi]; exact ⟨rfl, rfl, rfl⟩
    exact ⟨q.1.trans b1, q.2.1.trans b2, fun j hj => by rw [q.2.2, hG i hi hii j hj]; exact b3 j hj⟩
theorem GM.TB {f0 f : RH} {N W : Nat} {G : Nat → Nat → Int32} {R : List (List Int32)} (h : GM f0 N W G f) (hz : ez E ≤ f0.1) (hR : R.length = N) (hW : ∀ i, i < N → (R.getD i []).length = W ∧ ∀ j, j < W → (R.getD i []).getD j 0 = G i j) : TB E f0 N R (N + 1 + N * (W + 1)) f := by
  obtain ⟨g1, h2, ⟨a1, a2, a3⟩, h4⟩ := h
  refine ⟨g1, by omega, a1, a2, fun i hi => ?_⟩
  rw [hR] at hi
  obtain ⟨b1, b2, b3⟩ := h4 i hi
  obtain ⟨w1, w2⟩ := hW i hi
  rw [a3 i hi]
  refine ⟨f0.1 + 1 + i, vl f (f0.1 + 1 + i), rfl, ⟨by omega, by omega⟩, by rw [cellv' b1, b2, w1], fun j hj => ?_⟩
  rw [w1] at hj
  rw [b3 j hj, w2 j hj]
theorem padrow_getD (r : List Int32) (W j : Nat) (hj : j < W) : ((r ++ List.replicate W 0).take W).getD j 0 = if j < r.length then r.getD j 0 else 0 := by
  rw [List.getD_eq_getElem?_getD, List.getElem?_take, if_pos hj]
  by_cases h : j < r.length
  · rw [if_pos h, List.getElem?_append_left h, List.getD_eq_getElem?_getD]
  · rw [if_neg h, List.getElem?_append_right (by omega), List.getElem?_replicate]
    split <;> rfl
theorem padrow_len (r : List Int32) (W : Nat) : ((r ++ List.replicate W 0).take W).length = W := by
  rw [List.length_take, List.length_append, List.length_replicate]; omega
theorem C_pad (hst : l.stackTraces = false) {b q : Nat} {R : List (List Int32)} {y place : Int32} (ht : tg f q = some (.inr 11)) (hl : ln f q = R.length) (hq : q < b) (hI : ∀ i, i < R.length → rcI f.2.2.1 (ez E) b (vl f q i) (R.getD i [])) (hb : b ≤ f.1) (hR : R.length ≤ 20) (h64 : ∀ r ∈ R, r.length ≤ 64) (hz : ez E ≤ f.1) (hcb : f.2.2.2 ≤ f.1) (hroom : f.2.1 + 600 ≤ BM)
    (h2 : ((64 : Int) < y.toInt ∨ 200 < (R.length : Int) * y.toInt) → Q (.inr 9) (cwrong s 2 place) f)
    (h3 : ¬ ((64 : Int) < y.toInt ∨ 200 < (R.length : Int) * y.toInt) → y < 0 → ∀ f', Gw f f' 300 → Q (.inr 9) (cwrong s 1 place) f')
    (h1 : ¬ ((64 : Int) < y.toInt ∨ 200 < (R.length : Int) * y.toInt) → ¬ y < 0 → ∀ f', TB E f R.length (R.map (fun r => (r ++ List.replicate y.toNatClampNeg 0).take y.toNatClampNeg)) (R.length + 1 + R.length * (y.toNatClampNeg + 1)) f' → Q (.inl (some (.ref f.1))) s f') : EvC l E w (d + 2) MX7_pad [.ref (w.1 7), .ref q, .int y, .int place] s f Q := by
  refine eX7_pad hst ⟨11, ht, ?_⟩
  rw [hl]
  have eR : (nI R.length).toInt = (R.length : Int) := nI_toInt (by omega)
  have hcl : (nI R.length).toNatClampNeg = R.length := nI_clamp (by omega)
  have hn0 : ¬ nI R.length < 0 := i32_nn _ (by omega)
  have eqv : ((20 : Int) < (nI R.length).toInt ∨ (64 : Int) < y.toInt ∨ (0 ≤ (nI R.length).toInt ∧ 0 ≤ y.toInt ∧ 200 < (nI R.length).toInt * y.toInt)) ↔ ((64 : Int) < y.toInt ∨ 200 < (R.length : Int) * y.toInt) := by
    rw [eR]
    constructor
    · rintro (z | z | ⟨z1, z2, z3⟩)
      · omega
      · exact Or.inl z
      · exact Or.inr z3
    · rintro (z | z)
      · exact Or.inr (Or.inl z)
      · refine Or.inr (Or.inr ⟨by omega, ?_, z⟩)
        by_cases hy : 0 ≤ y.toInt
        · exact hy
        · have : (R.length : Int) * y.toInt ≤ 0 := Int.mul_nonpos_of_nonneg_of_nonpos (by omega) (by omega)
          omega
  refine C_grid hst hroom (fun c => h2 (eqv.mp c)) (fun c c1 f' g => h3 (fun z => c (eqv.mpr z)) (c1.resolve_left hn0) f' g) (fun c1 c2 c3 c4 c5 => ⟨_, rfl, ?_⟩)
  rw [hcl] at c3 c5 ⊢
  have hM := (i32_nat c2).1
  have h1' := h1 (fun z => by
    rcases z with z | z
    · omega
    · rw [← hM] at z
      have e : (R.length : Int) * (y.toNatClampNeg : Int) = ((R.length * y.toNatClampNeg : Nat) : Int) := by push_cast; rfl
      omega) c2
  have ey := (i32_nat c2).2
  generalize hWd : y.toNatClampNeg = W at *
  have hq1 : q < f.1 := by omega
  refine dn (P := fun k => ∀ fk, GM f R.length W (fun i j => if i < k then ((R.getD i [] ++ List.replicate W 0).take W).getD j 0 else 0) fk → ExC l E w (d + 2) MX7_pad 19 [none, some (.ref q), some (.int y), none, some (.ref f.1), some (.int (nI k))] [] s fk Q) R.length ?_ (fun k hk ih => ?_) (fmu f R.length W R.length) (GM.start f R.length W)
  · intro fk hG
    refine vX7_pad_19 ⟨11, hG.2.2.1.1, ?_⟩
    rw [hG.2.2.1.2.1]
    refine pk_le R.length R.length (fun _ => h1' fk (hG.TB hz (List.length_map ..) (fun i hi => ?_))) (fun c => by omega) rfl rfl
    rw [getD_map _ R [] [] hi]
    exact ⟨padrow_len _ _, fun j hj => by (try dsimp only); rw [if_pos hi]⟩
  · intro fk hG
    obtain ⟨g, e1, ⟨a1, a2, a3⟩, a4⟩ := hG
    have hG : GM f R.length W (fun i j => if i < k then ((R.getD i [] ++ List.replicate W 0).take W).getD j 0 else 0) fk := ⟨g, e1, ⟨a1, a2, a3⟩, a4⟩
    obtain ⟨p, r1, r2, r3, r4, r5⟩ := (hI k hk).vw
    have hp1 : p < f.1 := by omega
    have hr64 := h64 _ (getD_mem [] hk)
    obtain ⟨b1, b2, b3⟩ := a4 k hk
    refine vX7_pad_19 ⟨11, a1, ?_⟩
    rw [a2, nI_clamp (n := k) (by omega)]
    have hmin : (if nI (ln fk p) < y then nI (ln fk p) else y) = nI (min W (R.getD k []).length) := by
      rw [g.lnE hp1, r4, ey]
      by_cases c : (R.getD k []).length < W
      · rw [if_pos ((nI_ltI (by omega) (by omega)).mpr c), Nat.min_eq_right (by omega)]
      · rw [if_neg (fun z => c ((nI_ltI (by omega) (by omega)).mp z)), Nat.min_eq_left (by omega)]
    have z0 : (0 : Int32).toNatClampNeg = 0 := rfl
    refine pk_le R.length k (fun c => by omega) (fun _ => ⟨11, by decide, (g.tgE hq1).trans ht, by rw [g.lnE hq1, hl]; exact inB_n hk, p, by rw [g.vlE hq1]; exact r1, 11, by decide, a1, inB_n hk, f.1 + 1 + k, a3 k hk, 11, by decide, (g.tgE hq1).trans ht, by rw [g.lnE hq1, hl]; exact inB_n hk, p, by rw [g.vlE hq1]; exact r1, 0, (g.tgE hp1).trans r3, (g.tgE hp1).trans r3, b1, (by rw [g.2.1]; omega), by decide, by decide, ?_⟩) rfl rfl
    rw [hmin, nI_clamp (n := min W (R.getD k []).length) (by omega), z0, g.lnE hp1, r4, b2]
    refine ⟨i32_nn _ (by omega), by omega, by omega, fun i hi => ⟨(R.getD k []).getD i 0, ?_⟩, fun f13 e => ?_⟩
    · rw [g.vlE hp1, Nat.zero_add]; exact r5 i (by omega)
    · obtain ⟨t1, t2, t3⟩ := fcont_tg (g := cpy (vl fk p) (vl fk (f.1 + 1 + k)) 0 0 (min W (R.getD k []).length)) b1
      rw [← e] at t1 t2 t3
      rw [nI_1]
      refine ih f13 (hG.ch hk (by rw [e]; rfl) (by rw [e]; rfl) (by rw [e]; rfl) (fun b hb => by rw [e]; exact fcont_ne hb) ⟨t1, t2.trans b2⟩ (fun j hj => ?_) (fun i hi hne j hj => ?_))
      · try dsimp only
        rw [t3, if_pos (by omega), padrow_getD _ _ _ hj]
        show (if 0 ≤ j ∧ j < 0 + min W (R.getD k []).length then vl fk p (0 + (j - 0)) else vl fk (f.1 + 1 + k) j) = _
        by_cases c : j < (R.getD k []).length
        · rw [if_pos ⟨by omega, by omega⟩, if_pos c, Nat.zero_add, Nat.sub_zero, g.vlE hp1]
          exact r5 j c
        · rw [if_neg (by omega), if_neg c, b3 j hj]
          try dsimp only
          rw [if_neg (by omega)]
      · try dsimp only
        by_cases c : i < k
        · rw [if_pos c, if_pos (by omega)]
        · rw [if_neg c, if_neg (by omega)]
theorem C_outer (hst : l.stackTraces = false) {b p q : Nat} {u v : List Int32} {place : Int32} (hu : rcI f.2.2.1 (ez E) b (.ref p) u) (hv : rcI f.2.2.1 (ez E) b (.ref q) v) (hb : b ≤ f.1) (hul : u.length ≤ 64) (hvl : v.length ≤ 64) (hz : ez E ≤ f.1) (hcb : f.2.2.2 ≤ f.1) (hroom : f.2.1 + 600 ≤ BM)
    (h2 : (20 < u.length ∨ 200 < u.length * v.length) → Q (.inr 9) (cwrong s 2 place) f)
    (h1 : ¬ (20 < u.length ∨ 200 < u.length * v.length) → ∀ f', TB E f u.length (u.map (fun a => v.map (fun b => a * b))) (u.length + 1 + u.length * (v.length + 1)) f' → Q (.inl (some (.ref f.1))) s f') : EvC l E w (d + 2) MX7_outer [.ref (w.1 7), .ref p, .ref q, .int place] s f Q := by
  obtain ⟨p', r1, r2, r3, r4, r5⟩ := hu.vw
  cases r1
  obtain ⟨q', s1, s2, s3, s4, s5⟩ := hv.vw
  cases s1
  have hp1 : p < f.1 := by omega
  have hq1 : q < f.1 := by omega
  refine eX7_outer hst ⟨0, r3, 0, s3, ?_⟩
  rw [r4, s4]
  have eU : (nI u.length).toInt = (u.length : Int) := nI_toInt (by omega)
  have eV : (nI v.length).toInt = (v.length : Int) := nI_toInt (by omega)
  have eM : (u.length : Int) * (v.length : Int) = ((u.length * v.length : Nat) : Int) := by push_cast; rfl
  have nU : ¬ nI u.length < 0 := i32_nn _ (by omega)
  have nV : ¬ nI v.length < 0 := i32_nn _ (by omega)
  have cU : (nI u.length).toNatClampNeg = u.length := nI_clamp (by omega)
  have cV : (nI v.length).toNatClampNeg = v.length := nI_clamp (by omega)
  refine C_grid hst hroom (fun c => h2 (by rw [eU, eV, eM] at c; omega)) (fun c c1 f' g => absurd c1 (by rintro (z | z); exact nU z; exact nV z)) (fun c1 c2 c3 c4 c5 => ⟨_, rfl, ?_⟩)
  rw [cU, cV] at c5 ⊢
  rw [cU] at c3
  have h1' := h1 (by omega)
  refine dn (P := fun k => ∀ fk, GM f u.length v.length (fun i j => if i < k then u.getD i 0 * v.getD j 0 else 0) fk → ExC l E w (d + 2) MX7_outer 20 [none, some (.ref p), some (.ref q), none, some (.ref f.1), some (.int (nI k)), none] [] s fk Q) u.length ?_ (fun k hk ih => ?_) (fmu f u.length v.length u.length) (GM.start f u.length v.length)
  · intro fk hG
    have g := hG.1
    refine vX7_outer_20 ⟨0, (g.tgE hp1).trans r3, ?_⟩
    rw [g.lnE hp1, r4]
    refine pk_le u.length u.length (fun _ => h1' fk (hG.TB hz (List.length_map ..) (fun i hi => ?_))) (fun c => by omega) rfl rfl
    rw [getD_map _ u 0 [] hi]
    exact ⟨List.length_map .., fun j hj => by (try dsimp only); rw [getD_map _ v 0 0 hj, if_pos hi]⟩
  · intro fk hG
    have g := hG.1
    refine vX7_outer_20 ⟨0, (g.tgE hp1).trans r3, ?_⟩
    rw [g.lnE hp1, r4]
    refine pk_le u.length k (fun c => by omega) (fun _ => ?_) rfl rfl
    refine dn (P := fun m => ∀ fm, GM f u.length v.length (fun i j => if i < k ∨ (i = k ∧ j < m) then u.getD i 0 * v.getD j 0 else 0) fm → ExC l E w (d + 2) MX7_outer 30 [none, some (.ref p), some (.ref q), none, some (.ref f.1), some (.int (nI k)), some (.int (nI m))] [] s fm Q) v.length ?_ (fun m hm ihm => ?_) fk ?_
    · intro fm hM
      have gm := hM.1
      refine vX7_outer_30 ⟨0, (gm.tgE hq1).trans s3, ?_⟩
      rw [gm.lnE hq1, s4]
      refine pk_le v.length v.length (fun _ => ?_) (fun c => by omega) rfl rfl
      rw [nI_1]
      refine ih fm ⟨hM.1, hM.2.1, hM.2.2.1, fun i hi => ⟨(hM.2.2.2 i hi).1, (hM.2.2.2 i hi).2.1, fun j hj => ?_⟩⟩
      rw [(hM.2.2.2 i hi).2.2 j hj]
      try dsimp only
      by_cases c : i < k + 1
      · rw [if_pos c, if_pos (by omega)]
      · rw [if_neg c, if_neg (by omega)]
    · intro fm hM
      obtain ⟨gm, e1, ⟨a1, a2, a3⟩, a4⟩ := id hM
      obtain ⟨b1, b2, b3⟩ := a4 k hk
      refine vX7_outer_30 ⟨0, (gm.tgE hq1).trans s3, ?_⟩
      rw [gm.lnE hq1, s4, nI_clamp (n := k) (by omega), nI_clamp (n := m) (by omega), a2, gm.lnE hp1, r4]
      refine pk_le v.length m (fun c => by omega) (fun _ => ⟨11, by decide, a1, inB_n hk, f.1 + 1 + k, a3 k hk, (gm.tgE hp1).trans r3, inB_n hk, u.getD k 0, by rw [gm.vlE hp1]; exact r5 k hk, (gm.tgE hq1).trans s3, inB_n hm, v.getD m 0, by rw [gm.vlE hq1]; exact s5 m hm, b1, by rw [b2]; exact inB_n hm, (by rw [gm.2.1]; omega), fun f12 e => ?_⟩) rfl rfl
      obtain ⟨t1, t2, t3⟩ := fset_tg (j := m) (v := .int (u.getD k 0 * v.getD m 0)) b1
      rw [← e] at t1 t2 t3
      rw [nI_1]
      refine ihm f12 (hM.ch hk (by rw [e]; rfl) (by rw [e]; rfl) (by rw [e]; rfl) (fun b hb => by rw [e]; exact if_neg hb) ⟨t1, t2.trans b2⟩ (fun j hj => ?_) (fun i hi hne j hj => ?_))
      · try dsimp only
        rw [t3]
        by_cases c : j = m
        · rw [if_pos c, if_pos (by omega), c]
        · rw [if_neg c, b3 j hj]
          try dsimp only
          by_cases c2 : j < m
          · rw [if_pos (by omega), if_pos (by omega)]
          · rw [if_neg (by omega), if_neg (by omega)]
      · try dsimp only
        by_cases c : i < k
        · rw [if_pos (Or.inl c), if_pos (Or.inl c)]
        · rw [if_neg (by omega), if_neg (by omega)]
    · refine ⟨hG.1, hG.2.1, hG.2.2.1, fun i hi => ⟨(hG.2.2.2 i hi).1, (hG.2.2.2 i hi).2.1, fun j hj => ?_⟩⟩
      rw [(hG.2.2.2 i hi).2.2 j hj]
      try dsimp only
      by_cases c : i < k
      · rw [if_pos c, if_pos (Or.inl c)]
      · rw [if_neg c, if_neg (by omega)]
theorem C_b25 (hst : l.stackTraces = false) {n md : Nat} {x y : Th} {place : Int32} (h : COk E n md [x, y] s f) (hQ : ∀ o s' f', cop E n md (zbi2 25 x y) place s f o s' f' → Q o s' f') : EvC l E w (d + 4) MX7_ofTwo [.ref (w.1 7), .int 25, .int place] s f Q := by
  obtain ⟨hx, hy, wx, wy, h26, h83⟩ := h.v2
  obtain ⟨⟨-, -, h40, hmd⟩, ⟨hr, hz, hcb⟩, -, -⟩ := h
  have hz1 : ez E ≤ f.1 := Nat.le_trans hz hcb
  refine EvC.pfrz (eX7_ofTwo hst fun y1 ey => ?_)
  rw [h26, nI_s2] at ey
  subst ey
  rw [nI_1, nI_clamp (n := n) (by omega), nI_clamp (n := n + 1) (by omega)]
  refine ⟨inB_n (by omega), _, rfl, hx.isR, inB_n (by omega), _, rfl, hy.isR, br_f (by decide) (br_f (by decide) (br_f (by decide) (br_f (by decide) (br_f (by decide) (br_f (by decide) (br_t rfl ?_))))))⟩
  have hb := zbi2_25 x y
  have g := fnew_gw f 30
  have hbud := g.2.2.1
  rw [CZ30] at hbud
  refine ⟨(by show f.2.1 + 1 + 2 ≤ BM; omega), fun a25 f26 e1 e2 => ?_⟩
  subst e1 e2
  refine C_asTable hst g hcb (by omega) hx (fun c p hp => ⟨p, rfl, ?_⟩) (fun c => hQ _ _ _ (cop.tr (k := 3) (hb.trans (if_pos (Or.inl c))) rfl h40 (by omega)))
  obtain ⟨p', pa, v1, v2, v3, v4, v5, v6, v7, v8⟩ := rcT.tab hp
  cases v1
  have hp1 : p < f.1 := Nat.lt_of_lt_of_le v2 hcb
  have hpa : pa < f.1 := Nat.lt_of_lt_of_le v5 hcb
  refine ⟨g.ocE hp1 v3, pa, by rw [g.vlE hp1]; exact v4, ?_⟩
  refine C_asInt hst (by omega) hy (fun c2 => ⟨_, rfl, ?_⟩) (fun c2 => hQ _ _ _ (cop.tr (k := 3) (hb.trans (if_pos (Or.inr c2))) rfl h40 (by omega)))
  rw [if_neg (by omega)] at hb
  have wx' := wx
  rw [zk2 c] at wx'
  obtain ⟨w1, w2, w3⟩ : (zt x).length ≤ 20 ∧ zis (zt x) ≤ 200 ∧ ∀ r ∈ zt x, r.length ≤ 64 := wx'
  have en : zn x = (zt x).length := by rw [zk2 c]; rfl
  rw [en] at hb
  refine C_pad hst (b := f.2.2.2) ((g.tgE hpa).trans v6) ((g.lnE hpa).trans v7) v5 (fun i hi => by rw [g.vlE hpa]; exact g.rI hcb (v8 i hi)) (Nat.le_succ_of_le hcb) w1 w3 (Nat.le_succ_of_le hz1) (Nat.le_succ_of_le hcb) (by omega) (fun k2 => hQ _ _ _ (cop.tr (k := 2) (hb.trans (if_pos k2)) rfl h40 (by omega))) (fun k2 k3 f' g' => hQ _ _ _ (cop.tr (k := 1) (hb.trans (by rw [if_neg k2, if_pos k3])) rfl h40 (by have := g'.2.2.1; omega))) (fun k2 k3 f' hB => ⟨_, rfl, ?_⟩)
  rw [if_neg k2, if_neg k3] at hb
  have hM := (i32_nat k3).1
  have k2' : ¬ 64 < (zv y).toNatClampNeg ∧ ¬ 200 < (zt x).length * (zv y).toNatClampNeg := by
    have e : ((zt x).length : Int) * (zv y).toInt = (((zt x).length * (zv y).toNatClampNeg : Nat) : Int) := by rw [← hM]; push_cast; rfl
    rw [e] at k2
    omega
  generalize (zv y).toNatClampNeg = W at *
  have hml : ((zt x).map (fun r => (r ++ List.replicate W 0).take W)).length = (zt x).length := List.length_map ..
  have hzis : zis ((zt x).map (fun r => (r ++ List.replicate W 0).take W)) = (zt x).length * W := by
    unfold zis
    rw [List.map_map]
    have : (List.length ∘ fun r : List Int32 => (r ++ List.replicate W 0).take W) = fun _ => W := funext fun r => padrow_len r W
    rw [this, List.map_const', List.sum_replicate_nat]
  obtain ⟨b1, b2, b3, b4, b5⟩ := hB
  have hw : ZW (zT ((zt x).map (fun r => (r ++ List.replicate W 0).take W))) := ⟨by omega, by omega, fun r hr => by
    obtain ⟨r0, -, rfl⟩ := List.mem_map.mp hr
    rw [padrow_len]; omega⟩
  have hmul : (zt x).length * (W + 1) = (zt x).length * W + (zt x).length := Nat.mul_succ _ W
  refine C_tabLate hst b1 hcb b3 (b4.trans hml.symm) b2 b5 (fun f2 q1 q2 => ⟨rfl, ?_⟩)
  rw [hml] at q2
  refine C_fin hst (parts := 2) (f0 := f) hb (cfr.rf JC n s) q2.2.2.1 q1 (by show ¬ 2 = 0; decide) hw h26 (by omega) h40 hmd ?_ hQ
  show _ ≤ 2 * (4 + 4 * ((zt x).map (fun r => (r ++ List.replicate W 0).take W)).length + zis ((zt x).map (fun r => (r ++ List.replicate W 0).take W)))
  rw [hml, hzis]
  omega
theorem C_b26 (hst : l.stackTraces = false) {n md : Nat} {x y : Th} {place : Int32} (h : COk E n md [x, y] s f) (hQ : ∀ o s' f', cop E n md (zbi2 26 x y) place s f o s' f' → Q o s' f') : EvC l E w (d + 4) MX7_ofTwo [.ref (w.1 7), .int 26, .int place] s f Q := by
  obtain ⟨hx, hy, wx, wy, h26, h83⟩ := h.v2
  obtain ⟨⟨-, -, h40, hmd⟩, ⟨hr, hz, hcb⟩, -, -⟩ := h
  have hz1 : ez E ≤ f.1 := Nat.le_trans hz hcb
  refine EvC.pfrz (eX7_ofTwo hst fun y1 ey => ?_)
  rw [h26, nI_s2] at ey
  subst ey
  rw [nI_1, nI_clamp (n := n) (by omega), nI_clamp (n := n + 1) (by omega)]
  refine ⟨inB_n (by omega), _, rfl, hx.isR, inB_n (by omega), _, rfl, hy.isR, br_f (by decide) (br_f (by decide) (br_f (by decide) (br_f (by decide) (br_f (by decide) (br_f (by decide) (br_f (by decide) (br_t rfl ?_)))))))⟩
  have hb := zbi2_26 x y
  have g := fnew_gw f 30
  have hbud := g.2.2.1
  rw [CZ30] at hbud
  refine ⟨(by show f.2.1 + 1 + 2 ≤ BM; omega), fun a25 f26 e1 e2 => ?_⟩
  subst e1 e2
  refine C_asRow hst g hcb (by omega) hx (fun c p hp => ⟨p, rfl, ?_⟩) (fun c => hQ _ _ _ (cop.tr (k := 3) (hb.trans (if_pos (Or.inl c))) rfl h40 (by omega)))
  obtain ⟨p', pa, v1, v2, v3, v4, v5, v6, v7, v8, v9⟩ := rcT.row hp
  cases v1
  have hp1 : p < f.1 := Nat.lt_of_lt_of_le v2 hcb
  refine ⟨g.ocE hp1 v3, pa, by rw [g.vlE hp1]; exact v4, ?_⟩
  refine C_asRow hst g hcb (by omega) hy (fun c2 q hq => ⟨q, rfl, ?_⟩) (fun c2 => hQ _ _ _ (cop.tr (k := 3) (hb.trans (if_pos (Or.inr c2))) rfl h40 (by omega)))
  obtain ⟨q', qa, u1, u2, u3, u4, u5, u6, u7, u8, u9⟩ := rcT.row hq
  cases u1
  have hq1 : q < f.1 := Nat.lt_of_lt_of_le u2 hcb
  refine ⟨g.ocE hq1 u3, qa, by rw [g.vlE hq1]; exact u4, ?_⟩
  rw [if_neg (by omega)] at hb
  have wx' := wx
  rw [zk1 c] at wx'
  have wl : (zr x).length ≤ 64 := wx'
  have wy' := wy
  rw [zk1 c2] at wy'
  have wl2 : (zr y).length ≤ 64 := wy'
  refine C_outer hst (b := f.2.2.2) (g.rI hcb v9) (g.rI hcb u9) (Nat.le_succ_of_le hcb) wl wl2 (Nat.le_succ_of_le hz1) (Nat.le_succ_of_le hcb) (by omega) (fun k2 => hQ _ _ _ (cop.tr (k := 2) (hb.trans (if_pos k2)) rfl h40 (by omega))) (fun k2 f' hB => ⟨_, rfl, ?_⟩)
  rw [if_neg k2] at hb
  have hml : ((zr x).map (fun a => (zr y).map (fun b => a * b))).length = (zr x).length := List.length_map ..
  have hzis : zis ((zr x).map (fun a => (zr y).map (fun b => a * b))) = (zr x).length * (zr y).length := by
    unfold zis
    rw [List.map_map]
    have : (List.length ∘ fun a : Int32 => (zr y).map (fun b => a * b)) = fun _ => (zr y).length := funext fun a => List.length_map ..
    rw [this, List.map_const', List.sum_replicate_nat]
  obtain ⟨b1, b2, b3, b4, b5⟩ := hB
  have hw : ZW (zT ((zr x).map (fun a => (zr y).map (fun b => a * b)))) := ⟨by omega, by omega, fun r hr => by
    obtain ⟨r0, -, rfl⟩ := List.mem_map.mp hr
    rw [List.length_map]; omega⟩
  have hmul : (zr x).length * ((zr y).length + 1) = (zr x).length * (zr y).length + (zr x).length := Nat.mul_succ _ _
  refine C_tabLate hst b1 hcb b3 (b4.trans hml.symm) b2 b5 (fun f2 q1 q2 => ⟨rfl, ?_⟩)
  rw [hml] at q2
  refine C_fin hst (parts := 2) (f0 := f) hb (cfr.rf JC n s) q2.2.2.1 q1 (by show ¬ 2 = 0; decide) hw h26 (by omega) h40 hmd ?_ hQ
  show _ ≤ 2 * (4 + 4 * ((zr x).map (fun a => (zr y).map (fun b => a * b))).length + zis ((zr x).map (fun a => (zr y).map (fun b => a * b))))
  rw [hml, hzis]
  omega
end CPa
