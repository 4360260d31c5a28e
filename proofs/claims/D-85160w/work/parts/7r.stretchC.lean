/-! THE COMPONENT: a stretch of a thing (take, drop) -/
def iSt {α : Type} (dd : α) (l : List α) (m : Int) (n : Nat) : List α := (List.range n).map (fun k : Nat => if 0 ≤ m + (k : Int) then l.getD (m + (k : Int)).toNat dd else dd)
theorem iSt_len {α : Type} (dd : α) (l : List α) (m : Int) (n : Nat) : (iSt dd l m n).length = n := by unfold iSt; rw [List.length_map, List.length_range]
theorem iSt_getD {α : Type} (dd e : α) (l : List α) (m : Int) (n k : Nat) (h : k < n) : (iSt dd l m n).getD k e = if 0 ≤ m + (k : Int) then l.getD (m + (k : Int)).toNat dd else dd := by
  unfold iSt
  rw [getD_map _ _ 0 e (by rw [List.length_range]; exact h), getD_lt 0 (by rw [List.length_range]; exact h), List.getElem_range]
theorem iSt_map {α β : Type} (g : α → β) (dd : α) (l : List α) (m : Int) (n : Nat) : (iSt dd l m n).map g = iSt (g dd) (l.map g) m n := by
  unfold iSt
  rw [List.map_map]
  refine List.map_congr_left fun k _ => ?_
  show g (if _ then _ else _) = _
  split
  · rw [List.getD_eq_getElem?_getD, List.getD_eq_getElem?_getD, List.getElem?_map]
    cases l[(m + (k : Int)).toNat]? <;> rfl
  · rfl
theorem zstr_iSt (dd : Th) (l : List Th) (m : Int) (n : Nat) : zstr dd l m n = iSt dd l m n := rfl
theorem iSt_mem {α : Type} {dd : α} {l : List α} {m : Int} {n : Nat} {x : α} (h : x ∈ iSt dd l m n) : x = dd ∨ x ∈ l := by
  obtain ⟨k, -, rfl⟩ := List.mem_map.mp h
  split
  · by_cases c : (m + (k : Int)).toNat < l.length
    · exact Or.inr (getD_mem dd c)
    · exact Or.inl (by rw [List.getD, List.getElem?_eq_none (by omega)]; rfl)
  · exact Or.inl rfl
theorem iSt_zis (l : List (List Int32)) (m : Int) : ∀ n, zis (iSt [] l m n) ≤ zis (l.take (m + (n : Int)).toNat)
  | 0 => by show 0 ≤ _; omega
  | n + 1 => by
    have ih := iSt_zis l m n
    have e : iSt [] l m (n + 1) = iSt [] l m n ++ [if 0 ≤ m + (n : Int) then l.getD (m + (n : Int)).toNat [] else []] := by
      unfold iSt
      rw [List.range_succ, List.map_append]; rfl
    have hs : ∀ A B : List (List Int32), zis (A ++ B) = zis A + zis B := fun A B => by unfold zis; rw [List.map_append, List.sum_append]
    have h1 : ∀ r : List Int32, zis [r] = r.length := fun r => by unfold zis; simp
    have hmono : zis (l.take (m + (n : Int)).toNat) ≤ zis (l.take (m + ((n + 1 : Nat) : Int)).toNat) := by
      have e2 : l.take (m + ((n + 1 : Nat) : Int)).toNat = l.take (m + (n : Int)).toNat ++ (l.take (m + ((n + 1 : Nat) : Int)).toNat).drop (m + (n : Int)).toNat := by
        have e9 := List.take_append_drop (m + (n : Int)).toNat (l.take (m + ((n + 1 : Nat) : Int)).toNat)
        rw [List.take_take, Nat.min_eq_left (by omega)] at e9
        exact e9.symm
      rw [e2, hs]; omega
    rw [e, hs, h1]
    by_cases c : 0 ≤ m + (n : Int)
    · rw [if_pos c]
      by_cases c2 : (m + (n : Int)).toNat < l.length
      · have e3 : (m + ((n + 1 : Nat) : Int)).toNat = (m + (n : Int)).toNat + 1 := by omega
        rw [e3, take_succ_getD l [] _ c2, hs, h1]; omega
      · rw [List.getD, List.getElem?_eq_none (by omega)]
        show _ + ([] : List Int32).length ≤ _
        rw [List.length_nil]; omega
    · rw [if_neg c, List.length_nil]; omega
theorem TB.at {E : EN} {f0 f : RH} {n c k q : Nat} {R R' : List (List Int32)} {r : List Int32} (h : TB E f0 n R c f) (hl : R'.length = R.length) (hne : ∀ i, i < R'.length → i ≠ k → R'.getD i [] = R.getD i []) (hk : R'.getD k [] = r) (hq : rcI f.2.2.1 (ez E) f0.1 (.ref q) r) : TB E f0 n R' c (fset f f0.1 k (.ref q)) := by
  obtain ⟨h1, h2, h3, h4, h5⟩ := h
  obtain ⟨t1, t2, t3⟩ := fset_tg (j := k) (v := .ref q) h3
  have hmo : ∀ {v r}, rcI f.2.2.1 (ez E) f.1 v r → rcI (fset f f0.1 k (.ref q)).2.2.1 (ez E) f.1 v r := by
    intro v r hr
    obtain ⟨p, g, e1, e2, e3, e4⟩ := hr
    refine ⟨p, g, e1, e2, ?_, e4⟩
    have hne : p ≠ f0.1 := fun z => by
      rw [z] at e3
      have := (cellv e3).1
      rw [h3] at this; cases this
    exact (if_neg hne).trans e3
  refine ⟨h1.set (Nat.le_refl _), h2, t1, t2.trans h4, fun i hi => ?_⟩
  rw [t3]
  show rcI _ _ f.1 _ _
  by_cases c : i = k
  · rw [if_pos c, c, hk]
    exact hmo (rcI_mono (by omega) (fun _ _ => rfl) hq)
  · rw [if_neg c, hne i hi c]
    exact hmo (h5 i (by rw [← hl]; exact hi))
section CSt
variable {l : Launch} {E : EN} {w : CO} {d : Nat} {s : CS} {f : RH} {Q : KO → CS → RH → Prop}
theorem st_cmp {fr : Int32} {F : Int} {k A : Nat} (hF : fr.toInt = F) (hFr : -64 ≤ F ∧ F ≤ 64) (hk : k ≤ 64) (hA : A ≤ 64) : ((fr + nI k) < 0 ↔ F + (k : Int) < 0) ∧ ((fr + nI k) < nI A ↔ F + (k : Int) < (A : Int)) ∧ (nI A ≤ (fr + nI k) ↔ (A : Int) ≤ F + (k : Int)) ∧ (fr + nI k).toNatClampNeg = (F + (k : Int)).toNat := by
  have ht : (fr + nI k).toInt = F + (k : Int) := i32_add (by rw [hF, nI_toInt (by omega)]) (by omega) (by omega)
  refine ⟨by rw [i32_neg, ht], by rw [Int32.lt_iff_toInt_lt, ht, nI_toInt (by omega)], by rw [Int32.le_iff_toInt_le, ht, nI_toInt (by omega)], ?_⟩
  show (fr + nI k).toInt.toNat = _
  rw [ht]
theorem C_strR (hst : l.stackTraces = false) {p K : Nat} {a : List Int32} {fr place : Int32} {F : Int} (hx : RT E f (.ref p) (zR a)) (ha : a.length ≤ 64) (hF : fr.toInt = F) (hFr : -64 ≤ F ∧ F ≤ 64) (hK : K ≤ 64) (hroom : f.2.1 + 100 ≤ BM) (hcb : f.2.2.2 ≤ f.1) (hz : ez E ≤ f.1)
    (h1 : ∀ p f', rcT f'.2.2.1 (ez E) f'.1 true (zR (iSt 0 a F K)) (fun _ => .ref p) → Gw f f' (K + 3) → Q (.inl (some (.ref p))) s f') : EvC l E w (d + 2) MX7_stretch [.ref (w.1 7), .ref p, .int fr, .int (nI K), .int place] s f Q := by
  obtain ⟨p', pa, v1, v2, v3, v4, v5, v6, v7, v8, v9⟩ := rcT.row hx
  cases v1
  have hp : p < f.1 := Nat.lt_of_lt_of_le v2 hcb
  have hpa : pa < f.1 := Nat.lt_of_lt_of_le v5.2 hcb
  refine eX7_stretch hst ⟨fun o s1 f2 => o = .inl (some (.int (nI a.length))) ∧ s1 = s ∧ f2 = f, ?_, C_size hst hx ⟨rfl, rfl, rfl⟩⟩
  rintro o s1 f2 ⟨rfl, rfl, rfl⟩
  have hcl : (nI K).toNatClampNeg = K := nI_clamp (by omega)
  rw [hcl]
  refine ⟨_, rfl, hx.isT, br_t v3.1 ⟨v3.1, i32_nn _ (by omega), by omega, (by show f2.2.1 + 1 + K ≤ BM; omega), fun a5 f6 e1 e2 => ?_⟩⟩
  subst e1 e2
  have hml := iSt_len (0 : Int32) a F K
  refine dn (P := fun k => ExC l E w (d + 2) MX7_stretch 27 [none, none, some (.int fr), some (.int (nI K)), none, some (.int (nI a.length)), some (.ref p), some (.ref f2.1), some (.int (nI k))] [] s1 (fA f2 K ((iSt 0 a F K).take k)) Q) K ?_ (fun k hk ih => ?_)
  · rw [List.take_of_length_le (by omega)]
    have g := fA_gw f2 K (iSt 0 a F K)
    refine vX7_stretch_27 (pk_le K K (fun _ => ?_) (fun c => by omega) rfl rfl)
    exact C_newRow hst (fA_rI f2 K _ hz hml) (by have := g.2.2.1; omega) (Nat.le_succ_of_le hcb) (fun f' q1 q2 => h1 _ f' q1 ((g.trans q2).le (by omega)))
  · have hll : ((iSt 0 a F K).take k).length = k := by rw [List.length_take]; omega
    have e2 := take_succ_getD (iSt 0 a F K) 0 k (by omega)
    rw [iSt_getD 0 0 a F K k hk] at e2
    have hsn := fun v => fA_snoc f2 K ((iSt 0 a F K).take k) v
    rw [hll] at hsn
    have g := fA_gw f2 K ((iSt 0 a F K).take k)
    obtain ⟨c1, c2, c3, c4⟩ := st_cmp (k := k) (A := a.length) hF hFr (by omega) ha
    have t := fA_tg f2 K ((iSt 0 a F K).take k)
    refine vX7_stretch_27 (pk_le K k (fun c => by omega) (fun _ => ⟨fun c => ⟨t.1, by rw [t.2.1]; exact inB_n hk, hcb, fun f18 e => ?_⟩, fun c => ⟨fun cc => ⟨g.ocE hp v3, pa, by rw [g.vlE hp]; exact v4, (g.tgE hpa).trans v6, by rw [g.lnE hpa, v7]; exact ⟨c, by rw [c4]; have := mt c1.mpr c; have := c2.mp cc; omega⟩, a.getD (F + (k : Int)).toNat 0, by rw [g.vlE hpa, c4]; exact v8 _ (by have := mt c1.mpr c; have := c2.mp cc; omega), t.1, by rw [t.2.1]; exact inB_n hk, hcb, fun f21 e => ?_⟩, fun cc => ⟨t.1, by rw [t.2.1]; exact inB_n hk, hcb, fun f22 e => ?_⟩⟩⟩) rfl rfl)
    · rw [if_neg (by have := c1.mp c; omega)] at e2
      rw [e, nI_clamp (n := k) (by omega), hsn, ← e2, nI_1]
      exact ih
    · rw [if_pos (by have := mt c1.mpr c; omega)] at e2
      rw [e, nI_clamp (n := k) (by omega), hsn, ← e2, nI_1]
      exact ih
    · rw [if_pos (by have := mt c1.mpr c; omega), List.getD, List.getElem?_eq_none (by have := mt c2.mpr cc; omega)] at e2
      have e2 : (iSt 0 a F K).take (k + 1) = (iSt 0 a F K).take k ++ [0] := e2
      rw [e, nI_clamp (n := k) (by omega), hsn, ← e2, nI_1]
      exact ih
theorem C_strT (hst : l.stackTraces = false) {p K : Nat} {a : List (List Int32)} {fr place : Int32} {F : Int} (hx : RT E f (.ref p) (zT a)) (ha : a.length ≤ 20) (hF : fr.toInt = F) (hFr : -64 ≤ F ∧ F ≤ 64) (hK : K ≤ 20) (hroom : f.2.1 + 200 ≤ BM) (hcb : f.2.2.2 ≤ f.1) (hz : ez E ≤ f.1)
    (h1 : ∀ p f', rcT f'.2.2.1 (ez E) f'.1 true (zT (iSt [] a F K)) (fun _ => .ref p) → Gw f f' (5 * K + 5) → Q (.inl (some (.ref p))) s f') : EvC l E w (d + 2) MX7_stretch [.ref (w.1 7), .ref p, .int fr, .int (nI K), .int place] s f Q := by
  obtain ⟨p', pa, v1, v2, v3, v4, v5, v6, v7, v8⟩ := rcT.tab hx
  cases v1
  have hp : p < f.1 := Nat.lt_of_lt_of_le v2 hcb
  have hpa : pa < f.1 := Nat.lt_of_lt_of_le v5 hcb
  refine eX7_stretch hst ⟨fun o s1 f2 => o = .inl (some (.int (nI a.length))) ∧ s1 = s ∧ f2 = f, ?_, C_size hst hx ⟨rfl, rfl, rfl⟩⟩
  rintro o s1 f2 ⟨rfl, rfl, rfl⟩
  have hcl : (nI K).toNatClampNeg = K := nI_clamp (by omega)
  have z0 : (0 : Int32).toNatClampNeg = 0 := rfl
  rw [hcl, z0]
  refine ⟨_, rfl, hx.isT, br_f (by rw [v3.1]; intro z; cases z) ⟨hx.isT, br_t v3.1 ⟨v3.1, i32_nn _ (by omega), by decide, by omega, by omega, (by show f2.2.1 + (1 + K) + (K + K * 0 + 0) ≤ BM; omega), fun a8 f9 e1 e2 => ?_⟩⟩⟩
  subst e1 e2
  have hml := iSt_len ([] : List Int32) a F K
  have hRk : ∀ k i, i < K → ((List.range K).map (fun i => if i < k then (iSt [] a F K).getD i [] else [])).getD i [] = if i < k then (iSt [] a F K).getD i [] else [] := fun k i hi => by
    rw [getD_map _ _ 0 [] (by rw [List.length_range]; exact hi), getD_lt 0 (by rw [List.length_range]; exact hi), List.getElem_range]
  have hRl : ∀ k, ((List.range K).map (fun i => if i < k then (iSt [] a F K).getD i [] else [])).length = K := fun k => by rw [List.length_map, List.length_range]
  refine dn (P := fun k => ∀ fk, TB E f2 K ((List.range K).map (fun i => if i < k then (iSt [] a F K).getD i [] else [])) (2 * K + 1) fk → ExC l E w (d + 2) MX7_stretch 108 [none, none, some (.int fr), some (.int (nI K)), none, some (.int (nI a.length)), some (.ref p), some (.ref f2.1), some (.int (nI k))] [] s1 fk Q) K ?_ (fun k hk ih => ?_) (fmu f2 K 0 K) ?_
  · intro fk hB
    have e : (List.range K).map (fun i => if i < K then (iSt [] a F K).getD i [] else []) = iSt [] a F K := by
      refine List.ext_getElem (by rw [hRl, hml]) fun i hi hi2 => ?_
      rw [hRl] at hi
      rw [← getD_lt [], hRk K i hi, if_pos hi, getD_lt]
    rw [e] at hB
    refine vX7_stretch_108 (pk_le K K (fun _ => ?_) (fun c => by omega) rfl rfl)
    have hb := hB.1.2.2.1
    exact C_newTab hst hB hml (by omega) hcb (fun q f' q1 q2 => h1 q f' q1 (q2.le (by omega)))
  · intro fk hB
    have g := hB.1
    obtain ⟨c1, c2, c3, c4⟩ := st_cmp (k := k) (A := a.length) hF hFr (by omega) (by omega)
    have hv := iSt_getD [] [] a F K k hk
    have same : (iSt [] a F K).getD k [] = [] → TB E f2 K ((List.range K).map (fun i => if i < k + 1 then (iSt [] a F K).getD i [] else [])) (2 * K + 1) fk := fun h0 => by
      have e : (List.range K).map (fun i => if i < k + 1 then (iSt [] a F K).getD i [] else []) = (List.range K).map (fun i => if i < k then (iSt [] a F K).getD i [] else []) := by
        refine List.map_congr_left fun i _ => ?_
        by_cases ci : i = k
        · rw [ci, if_pos (by omega), if_neg (by omega), h0]
        · by_cases cj : i < k
          · rw [if_pos cj, if_pos (by omega)]
          · rw [if_neg cj, if_neg (by omega)]
      rw [e]; exact hB
    refine vX7_stretch_108 (pk_le K k (fun c => by omega) (fun _ => ⟨fun c => ?_, fun c => ⟨fun cc => ?_, fun cc => ?_⟩⟩) rfl rfl)
    · rw [nI_1]
      exact ih fk (same (by rw [hv, if_neg (by have := c1.mp c; omega)]))
    · rw [nI_1]
      exact ih fk (same (by rw [hv, if_pos (by have := mt c1.mpr c; omega), List.getD, List.getElem?_eq_none (by have := c3.mp cc; omega)]; rfl))
    · have k1 := mt c1.mpr c
      have k2 := mt c3.mpr cc
      have hi : (F + (k : Int)).toNat < a.length := by omega
      have hr := v8 _ hi
      obtain ⟨r, r1, r2, r3, r4, r5⟩ := hr.vw
      have hr1 : r < f2.1 := by omega
      rw [if_pos (by omega)] at hv
      refine ⟨g.ocE hp v3, pa, by rw [g.vlE hp]; exact v4, 11, by decide, (g.tgE hpa).trans v6, by rw [g.lnE hpa, v7]; exact ⟨c, by rw [c4]; exact hi⟩, r, by rw [g.vlE hpa, c4]; exact r1, hB.2.2.1, (g.tgE hr1).trans r3, r2.1, by rw [hB.2.2.2.1]; exact inB_n hk, by rw [g.2.1]; exact hcb, fun f30 e => ?_⟩
      rw [e, nI_clamp (n := k) (by omega), nI_1]
      refine ih _ (hB.at (r := a.getD (F + (k : Int)).toNat []) (by rw [hRl, hRl]) (fun i hi' hne => ?_) (by rw [hRk _ k hk, if_pos (by omega), hv]) ?_)
      · rw [hRl] at hi'
        rw [hRk _ i hi', hRk _ i hi']
        by_cases cj : i < k
        · rw [if_pos cj, if_pos (by omega)]
        · rw [if_neg cj, if_neg (by omega)]
      · rw [← r1]
        exact rcI_mono hcb (fun _ _ => rfl) (g.rI hcb hr)
  · have h0 := fmu_TB (E := E) f2 K 0 hz
    have e : (List.range K).map (fun i => if i < 0 then (iSt [] a F K).getD i [] else []) = List.replicate K (List.replicate 0 0) := by
      refine List.ext_getElem (by rw [hRl, List.length_replicate]) fun i hi hi2 => ?_
      rw [List.getElem_map, List.getElem_replicate, if_neg (by omega)]; rfl
    rw [e]
    exact h0.le (by omega)
theorem C_strP (hst : l.stackTraces = false) {p K : Nat} {a : List Th} {fr place : Int32} {F : Int} (hx : RT E f (.ref p) (zP a)) (hZ : ZW (zP a)) (hF : fr.toInt = F) (hFr : -64 ≤ F ∧ F ≤ 64) (hK : K ≤ 20) (hroom : f.2.1 + 200 ≤ BM) (hcb : f.2.2.2 ≤ f.1) (hz : ez E ≤ f.1)
    (h1 : zgt (zP (iSt (zI 0) a F K)) = false → ∀ p f', rcT f'.2.2.1 (ez E) f'.1 true (zP (iSt (zI 0) a F K)) (fun _ => .ref p) → Gw f f' (3 * K + 5) → Q (.inl (some (.ref p))) s f')
    (h2 : zgt (zP (iSt (zI 0) a F K)) = true → ∀ f', Gw f f' 300 → Q (.inr 9) (cwrong s 2 place) f') : EvC l E w (d + 4) MX7_stretch [.ref (w.1 7), .ref p, .int fr, .int (nI K), .int place] s f Q := by
  obtain ⟨z1, z2, z3, z4⟩ := zw_pack.mp hZ
  obtain ⟨p', pa, v1, v2, v3, v4, v5, v6, v7, v8, v9, v10⟩ := rcT.pack hx
  cases v1
  have hp : p < f.1 := Nat.lt_of_lt_of_le v2 hcb
  have hpa : pa < f.1 := Nat.lt_of_lt_of_le v5 hcb
  have hzn : zn (zP a) = a.length := by show (zl (zsp a)).length = _; rw [zl_zsp]
  refine eX7_stretch hst ⟨fun o s1 f2 => o = .inl (some (.int (nI a.length))) ∧ s1 = s ∧ f2 = f, ?_, C_size hst hx ⟨by rw [hzn], rfl, rfl⟩⟩
  rintro o s1 f2 ⟨rfl, rfl, rfl⟩
  have hcl : (nI K).toNatClampNeg = K := nI_clamp (by omega)
  rw [hcl]
  refine ⟨_, rfl, hx.isT, br_f (by rw [v3.1]; intro z; cases z) ⟨hx.isT, br_f (by rw [v3.1]; intro z; cases z) ⟨i32_nn _ (by omega), by omega, (by show f2.2.1 + 1 + K ≤ BM; omega), fun a10 f11 e1 e2 => ?_⟩⟩⟩
  subst e1 e2
  have hml := iSt_len (zI 0) a F K
  refine dn (P := fun k => ∀ fk, PB E f2 K ((iSt (zI 0) a F K).take k) (K + 1 + 2 * k) fk → ExC l E w (d + 4) MX7_stretch 170 [some (.ref (w.1 7)), some (.ref p), some (.int fr), some (.int (nI K)), some (.int place), some (.int (nI a.length)), some (.ref f2.1), some (.int (nI k)), none] [] s1 fk Q) K ?_ (fun k hk ih => ?_) (fnewA f2 4 K) (PB.start E f2 K)
  · intro fk hB
    rw [List.take_of_length_le (by omega)] at hB
    obtain ⟨b1, b2, b3, b4, b5⟩ := hB
    have hbud := b1.2.2.1
    refine vX7_stretch_170 (pk_le K K (fun _ => ?_) (fun c => by omega) rfl rfl)
    refine C_pack hst b3 (b4.trans hml.symm) b2 (fun i hi => (b5 i hi).rep b1 hcb) (fun r hr => ?_) (by omega) (by omega) (by have := b1.1; rw [b1.2.1]; omega) (fun hz1 f' q1 q2 => ⟨_, rfl, h1 hz1 _ f' q1 ((b1.trans q2).le (by omega))⟩) (fun hz1 f' q2 => h2 hz1 f' ((b1.trans q2).le (by omega)))
    rcases iSt_mem hr with rfl | hm
    · exact trivial
    · exact z4 _ hm
  · intro fk hB
    have g := hB.1
    have hbud := g.2.2.1
    have hll : ((iSt (zI 0) a F K).take k).length = k := by rw [List.length_take]; omega
    obtain ⟨c1, c2, c3, c4⟩ := st_cmp (k := k) (A := a.length) hF hFr (by omega) (by omega)
    have e2 := take_succ_getD (iSt (zI 0) a F K) (zI 0) k (by omega)
    rw [iSt_getD (zI 0) (zI 0) a F K k hk] at e2
    have dfl : (if 0 ≤ F + (k : Int) then a.getD (F + (k : Int)).toNat (zI 0) else zI 0) = zI 0 → (rmF E fk 1 1 ∧ ∀ (a34 : Nat) (f35 : RH), a34 = fk.1 → f35 = fnew fk 32 → (EvC l E w (d + 3) MX35_init [.ref a34, .int 0] s1 f35 (fun o s36 f37 => KP o (fun r => r = none ∧ (∃ k39 : Nat, (tg f37 f2.1 = some (.inr 4) ∧ tg f37 a34 = some (.inl k39) ∧ k39 ∈ CKs 4 ∧ inB (nI k) (ln f37 f2.1) ∧ f37.2.2.2 ≤ f2.1 ∧ ∀ f38 : RH, f38 = fset f37 f2.1 (nI k).toNatClampNeg (.ref a34) → ExC l E w (d + 4) MX7_stretch 170 [some (.ref (w.1 7)), some (.ref p), some (.int fr), some (.int (nI K)), some (.int place), some (.int (nI a.length)), some (.ref f2.1), some (.int (nI k + 1)), none] [] s36 f38 Q))) (fun k => Q (.inr k) s36 f37)))) := by
      intro hd
      refine ⟨(by show fk.2.1 + 1 + 1 ≤ BM; omega), fun a9 f10 e1 e3 => ?_⟩
      subst e1 e3
      obtain ⟨w1, w2⟩ := newW (E := E) (f0 := f2) (c := K + 1 + 2 * k) 0 g
      refine C_whole hst (fnew_new fk 32) (by show fk.2.2.2 ≤ fk.1; rw [g.2.1]; exact Nat.le_trans hcb g.1) ⟨rfl, 32, ?_⟩
      have hB2 := hB.grow w2
      refine ⟨hB2.2.2.1, ?_, by decide, by rw [hB2.2.2.2.1]; exact inB_n hk, by rw [hB2.1.2.1]; exact hcb, fun f13 e => ?_⟩
      · rw [(fset_tg (fnew_new fk 32).1).1]
      · have hp := hB2.put w1
        rw [hll] at hp
        rw [hd] at e2
        rw [← e2] at hp
        rw [e, nI_1, nI_clamp (n := k) (by omega)]
        exact ih _ (hp.le (by omega))
    refine vX7_stretch_170 (pk_le K k (fun c => by omega) (fun _ => ⟨fun c => dfl (if_neg (by have := c1.mp c; omega)), fun c => ⟨fun cc => ?_, fun cc => dfl (by rw [if_pos (by have := mt c1.mpr c; omega), List.getD, List.getElem?_eq_none (by have := mt c2.mpr cc; omega)]; rfl)⟩⟩) rfl rfl)
    have k1 := mt c1.mpr c
    have k2 := c2.mp cc
    have hi : (F + (k : Int)).toNat < a.length := by omega
    have hr := v10 _ hi
    obtain ⟨r, g1, g2, g3⟩ := hr.ocl
    have hpe : PE E f2 fk (.ref r) (a.getD (F + (k : Int)).toNat (zI 0)) := Or.inl (by rw [← g1]; exact hr)
    obtain ⟨kk, t1, t2⟩ := hpe.tag g hcb
    refine ⟨(g.tgE hp).trans v3.1, g.ocE hp v3, pa, by rw [g.vlE hp]; exact v4, 4, by decide, (g.tgE hpa).trans v6, by rw [g.lnE hpa, v7]; exact ⟨c, by rw [c4]; exact hi⟩, r, by rw [g.vlE hpa, c4]; exact g1, kk, hB.2.2.1, t1, t2, by rw [hB.2.2.2.1]; exact inB_n hk, by rw [g.2.1]; exact hcb, fun f43 e => ?_⟩
    have hp := hB.put hpe
    rw [if_pos (by omega)] at e2
    rw [hll, ← e2] at hp
    rw [e, nI_1, nI_clamp (n := k) (by omega)]
    exact ih _ (hp.le (by omega))
/-- so many from a place on -/
theorem C_stretch (hst : l.stackTraces = false) {x : Th} {p K : Nat} {fr place : Int32} {F : Int} (hx : RT E f (.ref p) x) (hk : ¬ zk x = 0) (hZ : ZW x) (hF : fr.toInt = F) (hFr : -64 ≤ F ∧ F ≤ 64) (hK : K ≤ if zk x = 1 then 64 else 20) (hroom : f.2.1 + 200 ≤ BM) (hcb : f.2.2.2 ≤ f.1) (hz : ez E ≤ f.1)
    (h1 : ∀ t, zof (zk x) (zstr (zdf (zk x)) (ze x) F K) = t → zmk t = .inr t → ZW t → ¬ zk t = 0 → ∀ p f', rcT f'.2.2.1 (ez E) f'.1 true t (fun _ => .ref p) → Gw f f' (2 * zm t) → Q (.inl (some (.ref p))) s f')
    (h2 : zmk (zof (zk x) (zstr (zdf (zk x)) (ze x) F K)) = .inl 2 → ∀ f', Gw f f' 300 → Q (.inr 9) (cwrong s 2 place) f') : EvC l E w (d + 4) MX7_stretch [.ref (w.1 7), .ref p, .int fr, .int (nI K), .int place] s f Q := by
  rcases zcases hZ with ⟨v, rfl⟩ | ⟨a, rfl, z1⟩ | ⟨a, rfl, z1, z2, z3⟩ | ⟨a, rfl, z1, z2, z3, z4⟩
  · exact absurd rfl hk
  · have hK : K ≤ 64 := hK
    have hml := iSt_len (0 : Int32) a F K
    have e : zof 1 (zstr (zdf 1) (ze (zR a)) F K) = zR (iSt 0 a F K) := by
      show zR ((iSt (zI 0) (a.map zI) F K).map zv) = _
      rw [iSt_map, List.map_map]
      have e9 : (zv ∘ zI) = id := rfl
      rw [e9, List.map_id]; rfl
    have hw : ZW (zR (iSt 0 a F K)) := by show (iSt 0 a F K).length ≤ 64; omega
    refine C_strR (d := d + 2) hst hx z1 hF hFr hK (by omega) hcb hz (fun p f' q1 q2 => h1 _ e (zmk_ok hw) hw (by show ¬ 1 = 0; decide) p f' q1 (q2.le (by show _ ≤ 2 * (4 + (iSt 0 a F K).length); omega)))
  · have hK : K ≤ 20 := hK
    have hml := iSt_len ([] : List Int32) a F K
    have e : zof 2 (zstr (zdf 2) (ze (zT a)) F K) = zT (iSt [] a F K) := by
      show zT ((iSt (zR []) (a.map zR) F K).map zr) = _
      rw [iSt_map, List.map_map]
      have e9 : (zr ∘ zR) = id := rfl
      rw [e9, List.map_id]; rfl
    have hs := iSt_zis a F K
    have hs2 : zis (a.take (F + (K : Int)).toNat) ≤ zis a := by
      have e9 := List.take_append_drop (F + (K : Int)).toNat a
      have e8 : zis a = zis (a.take (F + (K : Int)).toNat) + zis (a.drop (F + (K : Int)).toNat) := by
        conv => lhs; rw [← e9]
        unfold zis
        rw [List.map_append, List.sum_append]
      omega
    have hw : ZW (zT (iSt [] a F K)) := ⟨by omega, by omega, fun r hr => by
      rcases iSt_mem hr with rfl | hm
      · exact Nat.zero_le _
      · exact z3 _ hm⟩
    refine C_strT (d := d + 2) hst hx z1 hF hFr hK (by omega) hcb hz (fun p f' q1 q2 => h1 _ e (zmk_ok hw) hw (by show ¬ 2 = 0; decide) p f' q1 (q2.le (by show _ ≤ 2 * (4 + 4 * (iSt [] a F K).length + zis (iSt [] a F K)); omega)))
  · have hK : K ≤ 20 := hK
    have hml := iSt_len (zI 0) a F K
    have e : zof 3 (zstr (zdf 3) (ze (zP a)) F K) = zP (iSt (zI 0) a F K) := by
      show zP (iSt (zI 0) (zl (zsp a)) F K) = _
      rw [zl_zsp]
    refine C_strP hst hx hZ hF hFr hK (by omega) hcb hz (fun hg p f' q1 q2 => ?_) (fun hg f' q2 => ?_)
    · have hall : ∀ t ∈ iSt (zI 0) a F K, ZW t := fun t ht => by
        rcases iSt_mem ht with rfl | hm
        · exact trivial
        · exact z4 _ hm
      have hmk : zmk (zP (iSt (zI 0) a F K)) = .inr (zP (iSt (zI 0) a F K)) := by
        unfold zmk
        rw [hg]; rfl
      exact h1 _ e hmk (zmk_pack hall hmk).2 (by show ¬ 3 = 0; decide) p f' q1 (q2.le (by show _ ≤ 2 * (4 + 2 * (zl (zsp _)).length); rw [zl_zsp]; omega))
    · refine h2 ?_ f' q2
      show zmk (zof 3 (zstr (zdf 3) (ze (zP a)) F K)) = _
      rw [e]
      unfold zmk
      rw [if_pos hg]
end CSt
