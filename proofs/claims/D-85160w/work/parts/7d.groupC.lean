/-! THE COMPONENT: turn, group -/
/-- what is in a column -/
def col (G : Nat → Nat → Option Int32) (K i : Nat) : List Int32 := (List.range K).filterMap (G i)
theorem col_some {G : Nat → Nat → Option Int32} {k i : Nat} {v : Int32} (h : G i k = some v) : col G (k + 1) i = col G k i ++ [v] := by
  unfold col
  rw [List.range_succ, List.filterMap_append]
  rw [List.filterMap_cons_some h, List.filterMap_nil]
theorem col_none {G : Nat → Nat → Option Int32} {k i : Nat} (h : G i k = none) : col G (k + 1) i = col G k i := by
  unfold col
  rw [List.range_succ, List.filterMap_append]
  rw [List.filterMap_cons_none h, List.filterMap_nil, List.append_nil]
theorem col_ext (G : Nat → Nat → Option Int32) (k i : Nat) : ∀ m, ∃ r, col G (k + m) i = col G k i ++ r
  | 0 => ⟨[], by rw [List.append_nil]; rfl⟩
  | m + 1 => by
    obtain ⟨r, hr⟩ := col_ext G k i m
    cases h : G i (k + m) with
    | none => exact ⟨r, by show col G (k + m + 1) i = _; rw [col_none h, hr]⟩
    | some v => exact ⟨r ++ [v], by show col G (k + m + 1) i = _; rw [col_some h, hr, List.append_assoc]⟩
theorem col_at {G : Nat → Nat → Option Int32} {k K i : Nat} {v : Int32} (hk : k < K) (h : G i k = some v) : (col G K i).getD (col G k i).length 0 = v ∧ (col G k i).length < (col G K i).length := by
  obtain ⟨r, hr⟩ := col_ext G (k + 1) i (K - (k + 1))
  have e : k + 1 + (K - (k + 1)) = K := by omega
  rw [e, col_some h, List.append_assoc] at hr
  rw [hr]
  exact ⟨getD_mid (col G k i) r v 0, by rw [List.length_append]; show _ < _ + (r.length + 1); omega⟩
theorem col_len (G : Nat → Nat → Option Int32) (i : Nat) : ∀ k, (col G k i).length ≤ k
  | 0 => Nat.le_refl 0
  | k + 1 => by
    have := col_len G i k
    cases h : G i k with
    | none => rw [col_none h]; omega
    | some v => rw [col_some h, List.length_append]; show _ + 1 ≤ _; omega
theorem map_getD_range {α : Type} (T : List α) (d : α) : (List.range T.length).map (fun k => T.getD k d) = T := by
  refine List.ext_getElem (by rw [List.length_map, List.length_range]) (fun i h1 h2 => ?_)
  rw [List.getElem_map, List.getElem_range, getD_lt d h2]
theorem zturn_col (T : List (List Int32)) : zturn T = (List.range (zmax (T.map List.length))).map (col (fun i k => (T.getD k [])[i]?) T.length) := by
  unfold zturn
  refine List.map_congr_left fun i _ => ?_
  unfold col
  conv => lhs; rw [← map_getD_range T []]
  rw [List.filterMap_map]
  rfl
theorem fm_filter {α β : Type} (p : α → Bool) (g : α → β) : ∀ L : List α, (L.filter p).map g = L.filterMap (fun j => if p j = true then some (g j) else none)
  | [] => rfl
  | x :: r => by
    rw [List.filter_cons, List.filterMap_cons]
    by_cases h : p x = true
    · rw [if_pos h, if_pos h, List.map_cons, fm_filter p g r]
    · rw [if_neg h, if_neg h, fm_filter p g r]
theorem zgroup_col (a : List Int32) : zgroup a = (List.range (zmost a)).map (col (fun i k => if (a.getD k 0 == nI i) = true then some (nI k) else none) a.length) := by
  unfold zgroup
  exact List.map_congr_left fun i _ => fm_filter _ _ _
/-- an array of counts -/
def MA (f0 : RH) (n : Nat) (M : Nat → Nat) (f : RH) : Prop := ∃ g : Nat → Value, f = fpush f0 (.inr 0, n, g) n ∧ ∀ j, j < n → g j = .int (nI (M j))
theorem MA.start (f0 : RH) (n : Nat) : MA f0 n (fun _ => 0) (fnewA f0 0 n) := ⟨_, rfl, fun _ _ => rfl⟩
theorem MA.at {f0 f : RH} {n : Nat} {M : Nat → Nat} (h : MA f0 n M f) : tg f f0.1 = some (.inr 0) ∧ ln f f0.1 = n ∧ (∀ j, j < n → vl f f0.1 j = .int (nI (M j))) ∧ Gw f0 f (n + 1) ∧ f.1 = f0.1 + 1 ∧ f.2.2.2 = f0.2.2.2 := by
  obtain ⟨g, rfl, hg⟩ := h
  obtain ⟨c1, c2, c3⟩ := cellv (cell_push f0 (.inr 0, n, g) n)
  exact ⟨c1, c2, fun j hj => (c3 j).trans (hg j hj), Gw.push f0 _ n, rfl, rfl⟩
theorem MA.set {f0 f : RH} {n j v : Nat} {M M' : Nat → Nat} (h : MA f0 n M f) (h1 : M' j = v) (h2 : ∀ i, i < n → i ≠ j → M' i = M i) : MA f0 n M' (fset f f0.1 j (.int (nI v))) := by
  obtain ⟨g, rfl, hg⟩ := h
  refine ⟨vup g j (.int (nI v)), fset_push f0 _ _ _ _ _ _, fun i hi => ?_⟩
  show (if i = j then Value.int (nI v) else g i) = _
  by_cases c : i = j
  · rw [if_pos c, c, h1]
  · rw [if_neg c, h2 i hi c]; exact hg i hi
theorem MA.eq {f0 f : RH} {n : Nat} {M M' : Nat → Nat} (h : MA f0 n M f) (h1 : ∀ j, j < n → M' j = M j) : MA f0 n M' f := by
  obtain ⟨g, e, hg⟩ := h
  exact ⟨g, e, fun j hj => by rw [h1 j hj]; exact hg j hj⟩
/-- counts, the outer array, i rows; what is in a row is known from its count on -/
def TU (f0 : RH) (R : List (List Int32)) (i : Nat) (M : Nat → Nat) (f : RH) : Prop :=
  Gw f0 f (2 * R.length + 2 + (i + zis (R.take i))) ∧ f.1 = f0.1 + 2 + i ∧ (tg f f0.1 = some (.inr 0) ∧ ln f f0.1 = R.length ∧ ∀ j, j < R.length → vl f f0.1 j = .int (nI (M j))) ∧ (tg f (f0.1 + 1) = some (.inr 11) ∧ ln f (f0.1 + 1) = R.length ∧ ∀ j, j < i → vl f (f0.1 + 1) j = .ref (f0.1 + 2 + j)) ∧ ∀ j, j < i → tg f (f0.1 + 2 + j) = some (.inr 0) ∧ ln f (f0.1 + 2 + j) = (R.getD j []).length ∧ ∀ x, M j ≤ x → x < (R.getD j []).length → vl f (f0.1 + 2 + j) x = .int ((R.getD j []).getD x 0)
theorem TU.start {f0 f : RH} {R : List (List Int32)} {M : Nat → Nat} (h : MA f0 R.length M f) : TU f0 R 0 M (fnewA f 11 R.length) := by
  obtain ⟨h1, h2, h3, h4, h5, h6⟩ := h.at
  have g : Gw f (fnewA f 11 R.length) (R.length + 1) := Gw.push f _ _
  obtain ⟨c1, c2, c3⟩ := cellv (cell_push f (.inr 11, R.length, fun _ => defaultValue (AT 11)) R.length)
  have hlt : f0.1 < f.1 := by omega
  refine ⟨(h4.trans g).le (by omega), by show f.1 + 1 = _; omega, ⟨(g.tgE hlt).trans h1, (g.lnE hlt).trans h2, fun j hj => by rw [g.vlE hlt]; exact h3 j hj⟩, ⟨by rw [← h5]; exact c1, by rw [← h5]; exact c2, fun j hj => absurd hj (Nat.not_lt_zero j)⟩, fun j hj => absurd hj (Nat.not_lt_zero j)⟩
theorem TU.row {f0 f : RH} {R : List (List Int32)} {i : Nat} {M : Nat → Nat} (h : TU f0 R i M f) (hi : i < R.length) (hM : M i = (R.getD i []).length) : TU f0 R (i + 1) M (fset (fnewA f 0 (M i)) (f0.1 + 1) i (.ref f.1)) ∧ (tg (fnewA f 0 (M i)) (f0.1 + 1) = some (.inr 11) ∧ ln (fnewA f 0 (M i)) (f0.1 + 1) = R.length ∧ tg (fnewA f 0 (M i)) f.1 = some (.inr 0)) := by
  obtain ⟨h1, h2, ⟨a1, a2, a3⟩, ⟨b1, b2, b3⟩, h5⟩ := h
  have g : Gw f (fnewA f 0 (M i)) (M i + 1) := Gw.push f _ _
  obtain ⟨c1, c2, c3⟩ := cellv (cell_push f (.inr 0, M i, fun _ => defaultValue (AT 0)) (M i))
  have l0 : f0.1 < f.1 := by omega
  have l1 : f0.1 + 1 < f.1 := by omega
  have t1 := (g.tgE l1).trans b1
  have t2 := (g.lnE l1).trans b2
  obtain ⟨s1, s2, s3⟩ := fset_tg (j := i) (v := .ref f.1) t1
  have ne : ∀ b, b ≠ f0.1 + 1 → tg (fset (fnewA f 0 (M i)) (f0.1 + 1) i (.ref f.1)) b = tg (fnewA f 0 (M i)) b ∧ ln (fset (fnewA f 0 (M i)) (f0.1 + 1) i (.ref f.1)) b = ln (fnewA f 0 (M i)) b ∧ ∀ x, vl (fset (fnewA f 0 (M i)) (f0.1 + 1) i (.ref f.1)) b x = vl (fnewA f 0 (M i)) b x := fun b hb => fset_ne hb
  have hzk : zis (R.take (i + 1)) = zis (R.take i) + (R.getD i []).length := by rw [take_succ_getD R [] i hi, zis_app, zis_cons, zis_nil]; omega
  refine ⟨⟨((h1.trans g).set (by omega)).le (by rw [hzk]; omega), by show f.1 + 1 = _; omega, ?_, ⟨s1, s2.trans t2, fun j hj => ?_⟩, fun j hj => ?_⟩, t1, t2, c1⟩
  · obtain ⟨n1, n2, n3⟩ := ne f0.1 (by omega)
    exact ⟨n1.trans ((g.tgE l0).trans a1), n2.trans ((g.lnE l0).trans a2), fun j hj => by rw [n3, g.vlE l0]; exact a3 j hj⟩
  · rw [s3]
    by_cases e : j = i
    · rw [if_pos e, e, h2]
    · rw [if_neg e, g.vlE l1]; exact b3 j (by omega)
  · obtain ⟨n1, n2, n3⟩ := ne (f0.1 + 2 + j) (by omega)
    by_cases e : j = i
    · subst e
      rw [h2] at c1 c2
      exact ⟨n1.trans c1, n2.trans (c2.trans hM), fun x hx hx2 => by omega⟩
    · obtain ⟨r1, r2, r3⟩ := h5 j (by omega)
      have l2 : f0.1 + 2 + j < f.1 := by omega
      exact ⟨n1.trans ((g.tgE l2).trans r1), n2.trans ((g.lnE l2).trans r2), fun x hx hx2 => by rw [n3, g.vlE l2]; exact r3 x hx hx2⟩
theorem TU.dec {f0 f : RH} {R : List (List Int32)} {j k : Nat} {M M' : Nat → Nat} (h : TU f0 R R.length M f) (hj : j < R.length) (hM : M j = k + 1) (hk : k < (R.getD j []).length) (h1 : M' j = k) (h2 : ∀ i, i < R.length → i ≠ j → M' i = M i) : (let f1 := fset f f0.1 j (.int (nI k)); (tg f1 f0.1 = some (.inr 0) ∧ ln f1 f0.1 = R.length ∧ vl f1 f0.1 j = .int (nI k)) ∧ (tg f1 (f0.1 + 1) = some (.inr 11) ∧ ln f1 (f0.1 + 1) = R.length ∧ vl f1 (f0.1 + 1) j = .ref (f0.1 + 2 + j)) ∧ (tg f1 (f0.1 + 2 + j) = some (.inr 0) ∧ ln f1 (f0.1 + 2 + j) = (R.getD j []).length) ∧ Gw f0 f1 (2 * R.length + 2 + (R.length + zis (R.take R.length))) ∧ TU f0 R R.length M' (fset f1 (f0.1 + 2 + j) k (.int ((R.getD j []).getD k 0)))) := by
  obtain ⟨g1, g2, ⟨a1, a2, a3⟩, ⟨b1, b2, b3⟩, h5⟩ := h
  intro f1
  obtain ⟨s1, s2, s3⟩ := fset_tg (j := j) (v := .int (nI k)) a1
  have ne : ∀ b, b ≠ f0.1 → tg f1 b = tg f b ∧ ln f1 b = ln f b ∧ ∀ x, vl f1 b x = vl f b x := fun b hb => fset_ne hb
  obtain ⟨n1, n2, n3⟩ := ne (f0.1 + 1) (by omega)
  obtain ⟨m1, m2, m3⟩ := ne (f0.1 + 2 + j) (by omega)
  obtain ⟨r1, r2, r3⟩ := h5 j hj
  have q1 := m1.trans r1
  refine ⟨⟨s1, s2.trans a2, by rw [s3, if_pos rfl]⟩, ⟨n1.trans b1, n2.trans b2, by rw [n3]; exact b3 j hj⟩, ⟨q1, m2.trans r2⟩, g1.set (Nat.le_refl _), ?_⟩
  obtain ⟨u1, u2, u3⟩ := fset_tg (j := k) (v := .int ((R.getD j []).getD k 0)) q1
  have ne2 : ∀ b, b ≠ f0.1 + 2 + j → tg (fset f1 (f0.1 + 2 + j) k (.int ((R.getD j []).getD k 0))) b = tg f1 b ∧ ln (fset f1 (f0.1 + 2 + j) k (.int ((R.getD j []).getD k 0))) b = ln f1 b ∧ ∀ x, vl (fset f1 (f0.1 + 2 + j) k (.int ((R.getD j []).getD k 0))) b x = vl f1 b x := fun b hb => fset_ne hb
  refine ⟨(g1.set (Nat.le_refl _)).set (by omega), g2, ?_, ?_, fun i hi => ?_⟩
  · obtain ⟨p1, p2, p3⟩ := ne2 f0.1 (by omega)
    refine ⟨p1.trans s1, p2.trans (s2.trans a2), fun i hi => ?_⟩
    rw [p3, s3]
    by_cases e : i = j
    · rw [if_pos e, e, h1]
    · rw [if_neg e, h2 i hi e]; exact a3 i hi
  · obtain ⟨p1, p2, p3⟩ := ne2 (f0.1 + 1) (by omega)
    exact ⟨p1.trans (n1.trans b1), p2.trans (n2.trans b2), fun i hi => by rw [p3, n3]; exact b3 i hi⟩
  · by_cases e : i = j
    · subst e
      refine ⟨u1, u2.trans (m2.trans r2), fun x hx hx2 => ?_⟩
      rw [u3]
      by_cases ex : x = k
      · rw [if_pos ex, ex]
      · rw [if_neg ex, m3]; exact r3 x (by omega) hx2
    · obtain ⟨p1, p2, p3⟩ := ne2 (f0.1 + 2 + i) (by omega)
      obtain ⟨v1, v2, v3⟩ := ne (f0.1 + 2 + i) (by omega)
      obtain ⟨w1, w2, w3⟩ := h5 i hi
      exact ⟨p1.trans (v1.trans w1), p2.trans (v2.trans w2), fun x hx hx2 => by rw [p3, v3]; exact w3 x (by rw [← h2 i hi e]; exact hx) hx2⟩
theorem TU.eq {f0 f : RH} {R : List (List Int32)} {i : Nat} {M M' : Nat → Nat} (h : TU f0 R i M f) (h1 : ∀ j, j < R.length → M' j = M j) (hi : i ≤ R.length) : TU f0 R i M' f := by
  obtain ⟨g1, g2, ⟨a1, a2, a3⟩, b, h5⟩ := h
  refine ⟨g1, g2, ⟨a1, a2, fun j hj => by rw [h1 j hj]; exact a3 j hj⟩, b, fun j hj => ?_⟩
  obtain ⟨r1, r2, r3⟩ := h5 j hj
  exact ⟨r1, r2, fun x hx hx2 => r3 x (by rw [← h1 j (by omega)]; exact hx) hx2⟩
theorem TU.rI {E : EN} {f0 f : RH} {R : List (List Int32)} (h : TU f0 R R.length (fun _ => 0) f) (hz : ez E ≤ f0.1) : ∀ i, i < R.length → rcI f.2.2.1 (ez E) f.1 (vl f (f0.1 + 1) i) (R.getD i []) := by
  obtain ⟨g1, g2, _, ⟨b1, b2, b3⟩, h5⟩ := h
  intro i hi
  obtain ⟨r1, r2, r3⟩ := h5 i hi
  rw [b3 i hi]
  exact rcI.of ⟨by omega, by omega⟩ r1 r2 (fun x hx => r3 x (Nat.zero_le _) hx)
theorem i32_ltI2 {x : Int32} {W i : Nat} (h : x.toInt = (W : Int) - 1) (hi : i < 2 ^ 31) : x < nI i ↔ W ≤ i := by
  rw [Int32.lt_iff_toInt_lt, nI_toInt hi]
  omega
section CGr
variable {l : Launch} {E : EN} {w : CO} {d : Nat} {s : CS} {f : RH} {Q : KO → CS → RH → Prop}
theorem C_widest (hst : l.stackTraces = false) {z b p q : Nat} {a : List (List Int32)} (h1 : oc f p 30) (h2 : vl f p 204 = .ref q) (h3 : tg f q = some (.inr 11)) (h4 : ln f q = a.length) (h5 : ∀ i, i < a.length → rcI f.2.2.1 z b (vl f q i) (a.getD i [])) (ha : a.length ≤ 1000) (hr : ∀ r ∈ a, r.length ≤ 64) (hQ : Q (.inl (some (.int (nI (zmax (a.map List.length)))))) s f) : EvC l E w (d + 1) MX33_widest [.ref p] s f Q := by
  have hle : ∀ k, zmax ((a.map List.length).take k) ≤ 64 := fun k => zmax_le fun x hx => by
    obtain ⟨r, hr1, rfl⟩ := List.mem_map.mp (List.mem_of_mem_take hx)
    exact hr r hr1
  refine eX33_widest hst ?_
  refine dn (P := fun k => ExC l E w (d + 1) MX33_widest 4 [some (.ref p), some (.int (nI (zmax ((a.map List.length).take k)))), some (.int (nI k))] [] s f Q) a.length ?_ (fun k hk ih => ?_)
  · rw [List.take_of_length_le (by rw [List.length_map]; exact Nat.le_refl _)]
    refine vX33_widest_4 ⟨h1, q, h2, 11, h3, ?_⟩
    rw [h4]
    exact pk_le a.length a.length (fun _ => hQ) (fun c => by omega) rfl rfl
  · obtain ⟨r, r1, r2, r3, r4, r5⟩ := (h5 k hk).vw
    refine vX33_widest_4 ⟨h1, q, h2, 11, h3, ?_⟩
    rw [h4, nI_clamp (by omega)]
    refine pk_le a.length k (fun c => by omega) (fun _ => ⟨h1, q, h2, 11, by decide, h3, by rw [h4]; exact inB_n hk, r, r1, 0, r3, fun y ey => ?_⟩) rfl rfl
    have hk1 := hle k
    have hl := hr _ (getD_mem ([] : List Int32) hk)
    have e : y = nI (zmax ((a.map List.length).take (k + 1))) := by
      rw [ey, r4, take_succ_getD (a.map List.length) 0 k (by rw [List.length_map]; exact hk), zmax_snoc, getD_map List.length a [] 0 hk]
      by_cases c : zmax ((a.map List.length).take k) < (a.getD k []).length
      · rw [if_pos ((nI_ltI (by omega) (by omega)).mpr c), Nat.max_eq_right (by omega)]
      · rw [if_neg (fun z => c ((nI_ltI (by omega) (by omega)).mp z)), Nat.max_eq_left (by omega)]
    rw [e, nI_1]
    exact ih
theorem zmax_mem : ∀ {l : List Nat} {x : Nat}, x ∈ l → x ≤ zmax l
  | a :: r, x, h => by
    rcases List.mem_cons.mp h with rfl | h
    · exact Nat.le_max_left ..
    · exact Nat.le_trans (zmax_mem h) (Nat.le_max_right ..)
theorem C_turned (hst : l.stackTraces = false) {p c0 : Nat} {T : List (List Int32)} {place : Int32} {f0 : RH} (g0 : Gw f0 f c0) (hcb : f0.2.2.2 ≤ f0.1) (hp : RT E f0 (.ref p) (zT T)) (wT : ZW (zT T)) (hz : ez E ≤ f.1) (hroom : f.2.1 + 400 ≤ BM)
    (h2 : 20 < zmax (T.map List.length) → Q (.inr 9) (cwrong s 2 place) f) (h1 : zmax (T.map List.length) ≤ 20 → ∀ f', TU f (zturn T) (zturn T).length (fun _ => 0) f' → Q (.inl (some (.ref (f.1 + 1)))) s f') : EvC l E w (d + 2) MX7_turned [.ref (w.1 7), .ref p, .int place] s f Q := by
  obtain ⟨w1, w2, w3⟩ := wT
  have hcbf : f.2.2.2 ≤ f.1 := by have := g0.1; rw [g0.2.1]; omega
  have hpf : RT E f (.ref p) (zT T) := by
    show rcT f.2.2.1 (ez E) f.2.2.2 true _ _
    rw [g0.2.1]
    exact g0.rT hcb hp
  obtain ⟨p', q, v1, v2, v3, v4, v5, v6, v7, v8⟩ := rcT.tab hpf
  cases v1
  have hp1 : p < f.1 := Nat.lt_of_lt_of_le v2 hcbf
  have hq1 : q < f.1 := Nat.lt_of_lt_of_le v5 hcbf
  have hWm : ∀ k, k < T.length → (T.getD k []).length ≤ zmax (T.map List.length) := fun k hk => zmax_mem (List.mem_map.mpr ⟨_, getD_mem ([] : List Int32) hk, rfl⟩)
  have hW64 : zmax (T.map List.length) ≤ 64 := zmax_le fun x hx => by
    obtain ⟨r, hr1, rfl⟩ := List.mem_map.mp hx
    exact w3 r hr1
  have hzt := zturn_col T
  generalize hW : zmax (T.map List.length) = W at *
  generalize hGd : (fun (i k : Nat) => (T.getD k [])[i]?) = G at *
  have hG1 : ∀ k i, i < (T.getD k []).length → G i k = some ((T.getD k []).getD i 0) := fun k i hi => by
    rw [← hGd]
    show (T.getD k [])[i]? = _
    rw [List.getElem?_eq_getElem hi, getD_lt 0 hi]
  have hG0 : ∀ k i, (T.getD k []).length ≤ i → G i k = none := fun k i hi => by
    rw [← hGd]
    exact List.getElem?_eq_none hi
  have hRl : (zturn T).length = W := by rw [hzt, List.length_map, List.length_range]
  have hRg : ∀ j, j < W → (zturn T).getD j [] = col G T.length j := fun j hj => by
    rw [hzt, getD_map (col G T.length) (List.range W) 0 [] (by rw [List.length_range]; exact hj), getD_lt 0 (by rw [List.length_range]; exact hj), List.getElem_range]
  have hcl : ∀ k i, (col G k i).length ≤ k := fun k i => col_len G i k
  refine eX7_turned hst ⟨v3, C_widest hst v3 v4 v6 v7 v8 (by omega) w3 ⟨_, rfl, ?_⟩⟩
  rw [hW]
  refine pk_le W 20 (fun cW => ?_) (fun c => C_wrong hst (Q := Q) (h2 c) (fun _ _ _ => rfl)) rfl rfl
  rw [nI_clamp (by omega)]
  refine ⟨i32_nn _ (by omega), by omega, (by show f.2.1 + 1 + W ≤ BM; omega), fun a4 f5 e1 e2 => ?_⟩
  subst e1 e2
  /- counting -/
  have cnt : ∀ m k, k + m = T.length → ∀ fk, MA f W (fun j => (col G k j).length) fk → ExC l E w (d + 2) MX7_turned 29 [none, some (.ref p), none, some (.int (nI W)), some (.ref f.1), some (.int (nI k)), none, none] [] s fk Q := by
    intro m
    induction m with
    | zero =>
      intro k hk fk hM
      have hk : k = T.length := hk
      subst hk
      obtain ⟨m1, m2, m3, g, m5, m6⟩ := hM.at
      have hbud := g.2.2.1
      refine vX7_turned_29 ⟨g.ocE hp1 v3, q, by rw [g.vlE hp1]; exact v4, 11, (g.tgE hq1).trans v6, ?_⟩
      rw [g.lnE hq1, v7, nI_clamp (by omega)]
      refine pk_le T.length T.length (fun _ => ⟨i32_nn _ (by omega), by omega, (by show fk.2.1 + 1 + W ≤ BM; omega), fun a11 f12 e1 e2 => ?_⟩) (fun c => by omega) rfl rfl
      subst e1 e2
      rw [← hRl] at hM
      have hU := TU.start (R := zturn T) hM
      rw [m5]
      rw [hRl] at hU
      /- rows -/
      have inner : ∀ k, k ≤ T.length → (∀ fk, TU f (zturn T) (zturn T).length (fun j => (col G k j).length) fk → ExC l E w (d + 2) MX7_turned 118 [none, some (.ref p), none, none, some (.ref f.1), some (.ref (f.1 + 1)), some (.int (nI k - 1)), none] [] s fk Q) := by
        intro k
        induction k with
        | zero =>
          intro _ fk hU
          refine vX7_turned_118 ⟨fun _ => h1 cW fk hU, fun c => absurd (by decide) c⟩
        | succ k ihk =>
          intro hk fk hU
          rw [show nI (k + 1) - 1 = nI k from nI_pred k]
          refine vX7_turned_118 ⟨fun c => absurd c (i32_nn k (by omega)), fun _ => ?_⟩
          have hkT : k < T.length := by omega
          obtain ⟨r, r1, r2, r3, r4, r5⟩ := (v8 k hkT).vw
          have hr1 : r < f.1 := Nat.lt_of_lt_of_le r2.2 hcbf
          have hlk := hWm k hkT
          refine dn (P := fun i => ∀ fk, TU f (zturn T) (zturn T).length (fun j => if j < i then (col G k j).length else (col G (k + 1) j).length) fk → ExC l E w (d + 2) MX7_turned 126 [none, some (.ref p), none, none, some (.ref f.1), some (.ref (f.1 + 1)), some (.int (nI k)), some (.int (nI i))] [] s fk Q) (T.getD k []).length ?_ (fun i hi ih => ?_) fk (hU.eq (fun j hj => if_neg (Nat.not_lt_zero j)) (Nat.le_refl _))
          · intro fk hU
            have g := hU.1
            refine vX7_turned_126 ⟨g.ocE hp1 v3, q, by rw [g.vlE hp1]; exact v4, 11, by decide, (g.tgE hq1).trans v6, by rw [g.lnE hq1, v7]; exact inB_n hkT, r, by rw [g.vlE hq1, nI_clamp (by omega)]; exact r1, 0, (g.tgE hr1).trans r3, ?_⟩
            rw [g.lnE hr1, r4]
            refine pk_le (T.getD k []).length (T.getD k []).length (fun _ => ?_) (fun c => by omega) rfl rfl
            rw [i32_m1]
            refine ihk (by omega) fk (hU.eq (fun j hj => ?_) (Nat.le_refl _))
            by_cases c : j < (T.getD k []).length
            · rw [if_pos c]
            · rw [if_neg c, col_none (hG0 k j (by omega))]
          · intro fk hU
            have g := hU.1
            have hGi := hG1 k i hi
            have hiW : i < W := by omega
            have hiR : i < (zturn T).length := by omega
            have hcs := col_some hGi
            have hMi : (if i < i then (col G k i).length else (col G (k + 1) i).length) = (col G k i).length + 1 := by
              rw [if_neg (Nat.lt_irrefl i), hcs, List.length_append]; rfl
            obtain ⟨ca, cb⟩ := col_at (K := T.length) hkT hGi
            rw [← hRg i hiW] at ca cb
            obtain ⟨⟨d1, d2, d3⟩, ⟨d4, d5, d6⟩, ⟨d7, d8⟩, g2, hU2⟩ := hU.dec (M' := fun j => if j < i + 1 then (col G k j).length else (col G (k + 1) j).length) hiR hMi cb (if_pos (Nat.lt_succ_self i)) (fun j _ hj => by
              show (if j < i + 1 then _ else _) = (if j < i then _ else _)
              by_cases c : j < i
              · rw [if_pos c, if_pos (by omega)]
              · rw [if_neg c, if_neg (by omega)])
            have hlen1 := hcl k i
            have hrl : ((zturn T).getD i []).length ≤ 64 := by rw [hRg i hiW]; have := hcl T.length i; omega
            have hb1 : fk.2.2.2 ≤ f.1 := by rw [g.2.1]; exact hcbf
            refine vX7_turned_126 ⟨g.ocE hp1 v3, q, by rw [g.vlE hp1]; exact v4, 11, by decide, (g.tgE hq1).trans v6, by rw [g.lnE hq1, v7]; exact inB_n hkT, r, by rw [g.vlE hq1, nI_clamp (by omega)]; exact r1, 0, (g.tgE hr1).trans r3, ?_⟩
            rw [g.lnE hr1, r4, hU.2.2.1.2.1, nI_clamp (n := i) (by omega), nI_clamp (n := k) (by omega)]
            refine pk_le (T.getD k []).length i (fun c => by omega) (fun _ => ⟨hU.2.2.1.1, inB_n hiR, nI ((col G k i).length + 1), by rw [hU.2.2.1.2.2 i hiR]; exact congrArg (fun z => Value.int (nI z)) hMi, hU.2.2.1.1, inB_n hiR, hb1, fun f31 e31 => ?_⟩) rfl rfl
            rw [nI_pred] at e31
            subst e31
            refine ⟨11, by decide, d4, by rw [d5]; exact inB_n hiR, _, d6, d1, by rw [d2]; exact inB_n hiR, _, d3, g2.ocE hp1 v3, q, by rw [g2.vlE hp1]; exact v4, 11, by decide, (g2.tgE hq1).trans v6, by rw [g2.lnE hq1, v7]; exact inB_n hkT, r, by rw [g2.vlE hq1]; exact r1, (g2.tgE hr1).trans r3, by rw [g2.lnE hr1, r4]; exact inB_n hi, _, by rw [g2.vlE hr1]; exact r5 i hi, d7, by rw [d8]; exact inB_n cb, by rw [g2.2.1]; omega, fun f39 e39 => ?_⟩
            rw [nI_clamp (by omega), ← ca] at e39
            rw [e39, nI_1]
            exact ih _ hU2
      refine dn (P := fun i => ∀ fk, TU f (zturn T) i (fun j => (col G T.length j).length) fk → ExC l E w (d + 2) MX7_turned 85 [none, some (.ref p), none, some (.int (nI W)), some (.ref f.1), some (.ref (f.1 + 1)), some (.int (nI i)), none] [] s fk Q) W ?_ (fun i hi ih => ?_) _ hU
      · intro fk hU
        have g := hU.1
        refine vX7_turned_85 (pk_le W W (fun _ => ⟨g.ocE hp1 v3, q, by rw [g.vlE hp1]; exact v4, 11, (g.tgE hq1).trans v6, fun y ey => ?_⟩) (fun c => by omega) rfl rfl)
        rw [g.lnE hq1, v7] at ey
        rw [ey]
        exact inner T.length (Nat.le_refl _) fk (by rw [hRl]; exact hU)
      · intro fk hU
        have g := hU.1
        have hbud := g.2.2.1
        have hzle := zis_take_le (zturn T) i
        have hz2 : zis (zturn T) ≤ 200 := by
          have := zis_turn W T
          rw [show zturn T = (List.range W).map (fun i => T.filterMap (fun r => r[i]?)) from by rw [← hW]; rfl]
          omega
        have hiR : i < (zturn T).length := by omega
        have hMi : (col G T.length i).length = ((zturn T).getD i []).length := by rw [hRg i hi]
        obtain ⟨hU2, u1, u2, u3⟩ := hU.row hiR hMi
        have hlen1 := hcl T.length i
        refine vX7_turned_85 ?_
        rw [hU.2.2.1.2.1, nI_clamp (n := i) (by omega)]
        refine pk_le W i (fun c => by omega) (fun _ => ⟨hU.2.2.1.1, inB_n hiR, nI (col G T.length i).length, hU.2.2.1.2.2 i hiR, i32_nn _ (by omega), ?_⟩) rfl rfl
        rw [nI_clamp (by omega)]
        refine ⟨by omega, (by show fk.2.1 + 1 + _ ≤ BM; omega), fun a17 f18 e1 e2 => ?_⟩
        subst e1 e2
        refine ⟨u1, u3, Nat.le_trans hz g.1, by rw [u2]; exact inB_n hiR, by show fk.2.2.2 ≤ _; rw [g.2.1]; omega, fun f19 e => ?_⟩
        rw [e, nI_1]
        exact ih _ hU2
    | succ m ihm =>
      intro k hk fk hM
      have hkT : k < T.length := by omega
      obtain ⟨r, r1, r2, r3, r4, r5⟩ := (v8 k hkT).vw
      have hr1 : r < f.1 := Nat.lt_of_lt_of_le r2.2 hcbf
      have hlk := hWm k hkT
      obtain ⟨-, -, -, g, -, -⟩ := hM.at
      refine vX7_turned_29 ⟨g.ocE hp1 v3, q, by rw [g.vlE hp1]; exact v4, 11, (g.tgE hq1).trans v6, ?_⟩
      rw [g.lnE hq1, v7]
      refine pk_le T.length k (fun c => by omega) (fun _ => ?_) rfl rfl
      refine dn (P := fun i => ∀ fk, MA f W (fun j => if j < i then (col G (k + 1) j).length else (col G k j).length) fk → ExC l E w (d + 2) MX7_turned 42 [none, some (.ref p), none, some (.int (nI W)), some (.ref f.1), some (.int (nI k)), some (.int (nI i)), none] [] s fk Q) (T.getD k []).length ?_ (fun i hi ih => ?_) fk (hM.eq (fun j hj => if_neg (Nat.not_lt_zero j)))
      · intro fk hM
        obtain ⟨-, -, -, g, -, -⟩ := hM.at
        refine vX7_turned_42 ⟨g.ocE hp1 v3, q, by rw [g.vlE hp1]; exact v4, 11, by decide, (g.tgE hq1).trans v6, by rw [g.lnE hq1, v7]; exact inB_n hkT, r, by rw [g.vlE hq1, nI_clamp (by omega)]; exact r1, 0, (g.tgE hr1).trans r3, ?_⟩
        rw [g.lnE hr1, r4]
        refine pk_le (T.getD k []).length (T.getD k []).length (fun _ => ?_) (fun c => by omega) rfl rfl
        rw [nI_1]
        refine ihm (k + 1) (by omega) fk (hM.eq (fun j hj => ?_))
        by_cases c : j < (T.getD k []).length
        · rw [if_pos c]
        · rw [if_neg c, col_none (hG0 k j (by omega))]
      · intro fk hM
        obtain ⟨m1, m2, m3, g, m5, m6⟩ := hM.at
        have hGi := hG1 k i hi
        have hiW : i < W := by omega
        have hmi := m3 i hiW
        rw [if_neg (Nat.lt_irrefl i)] at hmi
        have hM2 := hM.set (M' := fun j => if j < i + 1 then (col G (k + 1) j).length else (col G k j).length) (j := i) (v := (col G k i).length + 1) (by
          show (if i < i + 1 then _ else _) = _
          rw [if_pos (Nat.lt_succ_self i), col_some hGi, List.length_append]; rfl) (fun j _ hj => by
          show (if j < i + 1 then _ else _) = (if j < i then _ else _)
          by_cases c : j < i
          · rw [if_pos c, if_pos (by omega)]
          · rw [if_neg c, if_neg (by omega)])
        refine vX7_turned_42 ⟨g.ocE hp1 v3, q, by rw [g.vlE hp1]; exact v4, 11, by decide, (g.tgE hq1).trans v6, by rw [g.lnE hq1, v7]; exact inB_n hkT, r, by rw [g.vlE hq1, nI_clamp (by omega)]; exact r1, 0, (g.tgE hr1).trans r3, ?_⟩
        rw [g.lnE hr1, r4, m2, nI_clamp (by omega)]
        refine pk_le (T.getD k []).length i (fun c => by omega) (fun _ => ⟨m1, inB_n hiW, _, hmi, m1, inB_n hiW, by rw [m6]; exact hcbf, fun f25 e => ?_⟩) rfl rfl
        rw [nI_1] at e
        rw [e, nI_1]
        exact ih _ hM2
  exact cnt T.length 0 (by omega) _ ((MA.start f W).eq (fun j _ => rfl))
/-- a Table of rows that were counted -/
theorem C_tabTU (hst : l.stackTraces = false) {n md : Nat} {x : Th} {R : List (List Int32)} {place : Int32} {r : Nat ⊕ Th} {f1 : RH} (hr : r = .inr (zT R)) (hw : ZW (zT R)) (hcb : f.2.2.2 ≤ f.1) (hz : ez E ≤ f.1) (hT : TU (fnew f 30) R R.length (fun _ => 0) f1) (h26 : s.1 26 = nI (n + 1)) (h83 : n + 1 ≤ 8380) (h40 : s.1 40 = nI md) (hmd : md ≤ 3000) (hQ : ∀ o s' f', cop E n md r place s f o s' f' → Q o s' f') : EvC l E w (d + 2) MX33_init [.ref f.1, .ref ((fnew f 30).1 + 1)] s f1 (fun o s70 f71 => KP o (fun r => r = none ∧ EvC l E w (d + 2) MX3_give_2 [.ref (w.1 3), .ref f.1, .int 1, .int place] s70 f71 (fun o s1 f2 => KP o (fun r => r = none ∧ Q (.inl none) s1 (frz f2)) (fun k => Q (.inr k) s1 (frz f2)))) (fun k => Q (.inr k) s70 (frz f71))) := by
  obtain ⟨w1, w2, w3⟩ := hw
  have hrI := hT.rI (E := E) (Nat.le_succ_of_le hz)
  obtain ⟨g, g2, a, ⟨b1, b2, b3⟩, h5⟩ := hT
  rw [List.take_length] at g
  refine C_tabLate hst g hcb b1 b2 (by rw [g2]; omega) hrI (fun f' q1 q2 => ⟨rfl, ?_⟩)
  exact C_fin hst (parts := 1) (f0 := f) hr (cfr.rf JC n s) q2.2.2.1 q1 (by show ¬ 2 = 0; decide) ⟨w1, w2, w3⟩ h26 h83 h40 hmd (by show _ ≤ 2 * (4 + 4 * R.length + zis R); omega) hQ
theorem zturn_w {T : List (List Int32)} (wT : ZW (zT T)) (h : zmax (T.map List.length) ≤ 20) : ZW (zT (zturn T)) := by
  obtain ⟨w1, w2, w3⟩ := wT
  refine ⟨?_, ?_, fun r hr => ?_⟩
  · unfold zturn
    rw [List.length_map, List.length_range]; exact h
  · have := zis_turn (zmax (T.map List.length)) T
    unfold zturn
    omega
  · obtain ⟨i, hi, rfl⟩ := List.mem_map.mp hr
    exact Nat.le_trans (List.length_filterMap_le _ _) (by omega)
theorem C_b17 (hst : l.stackTraces = false) {n md : Nat} {x : Th} {place : Int32} (h : COk E n md [x] s f) (hQ : ∀ o s' f', cop E n md (zbi1 17 x) place s f o s' f' → Q o s' f') : EvC l E w (d + 3) MX7_work [.ref (w.1 7), .int 17, .int place] s f Q := by
  obtain ⟨hx, wx, h26, h83⟩ := h.v1
  obtain ⟨⟨-, -, h40, hmd⟩, ⟨hr, hz, hcb⟩, -, -⟩ := h
  have hz1 : ez E ≤ f.1 := Nat.le_trans hz hcb
  refine EvC.pfrz (eX7_work hst fun y1 ey => ?_)
  rw [h26, nI_pred] at ey
  subst ey
  rw [nI_clamp (by omega)]
  have g := fnew_gw f 30
  have hbud := g.2.2.1
  rw [CZ30] at hbud
  refine ⟨inB_n (by omega), _, rfl, hx.isR, br_f (by decide) (br_f (by decide) (br_f (by decide) (br_f (by decide) (br_f (by decide) (br_f (by decide) (br_f (by decide) (br_f (by decide) (br_t rfl ⟨(by show f.2.1 + 1 + 2 ≤ BM; omega), fun a3 f4 e1 e2 => ?_⟩))))))))⟩
  subst e1 e2
  have hb := zbi1_17 x
  refine C_asTable hst g hcb (by omega) hx (fun c p hp => ⟨p, rfl, ?_⟩) (fun c => hQ _ _ _ (cop.tr (k := 3) (hb.trans (if_pos c)) rfl h40 (by omega)))
  rw [if_neg (fun z => z c)] at hb
  have wx' := wx
  rw [zk2 c] at wx'
  refine C_turned hst g hcb hp wx' (Nat.le_succ_of_le hz1) (by omega) (fun c2 => hQ _ _ _ (cop.tr (k := 2) (hb.trans (if_pos c2)) rfl h40 (by omega))) (fun c2 f' hT => ⟨_, rfl, ?_⟩)
  exact C_tabTU hst (x := x) (hb.trans (if_neg (by omega))) (zturn_w wx' c2) hcb hz1 hT h26 (by omega) h40 hmd hQ
theorem zmost_le {a : List Int32} {W : Nat} (h : ∀ v ∈ a, ¬ v < 0 → v.toNatClampNeg < W) : zmost a ≤ W := by
  refine zmax_le fun x hx => ?_
  obtain ⟨v, hv, rfl⟩ := List.mem_map.mp hx
  by_cases c : v < 0
  · rw [if_pos c]; exact Nat.zero_le _
  · rw [if_neg c]; exact h v hv c
theorem zmost_lt {a : List Int32} {v : Int32} (hv : v ∈ a) (h : ¬ v < 0) : v.toNatClampNeg < zmost a := by
  have := zmax_mem (l := a.map (fun v => if v < 0 then 0 else v.toNatClampNeg + 1)) (x := v.toNatClampNeg + 1) (List.mem_map.mpr ⟨v, hv, if_neg h⟩)
  exact this
theorem C_group (hst : l.stackTraces = false) {q b : Nat} {a : List Int32} {place : Int32} (ha : rcI f.2.2.1 (ez E) b (.ref q) a) (hqf : q < f.1) (hl : a.length ≤ 64) (hz : ez E ≤ f.1) (hcb : f.2.2.2 ≤ f.1) (hroom : f.2.1 + 400 ≤ BM)
    (h2 : 20 < zmost a → Q (.inr 9) (cwrong s 2 place) f) (h3 : zmost a ≤ 20 → (∃ v ∈ a, v < 0) → Q (.inr 9) (cwrong s 1 place) (fexc f)) (h1 : zmost a ≤ 20 → ¬ (∃ v ∈ a, v < 0) → ∀ f', TU f (zgroup a) (zgroup a).length (fun _ => 0) f' → Q (.inl (some (.ref (f.1 + 1)))) s f') : EvC l E w (d + 2) MX7_group [.ref (w.1 7), .ref q, .int place] s f Q := by
  obtain ⟨q', v1, v2, v3, v4, v5⟩ := ha.vw
  cases v1
  refine eX7_group hst ?_
  refine dn (P := fun k => ∀ b3 b4 : Int32, b3.toInt = (zmost (a.take k) : Int) - 1 → (b4.toInt < 0 ↔ ∃ v ∈ a.take k, v < 0) → ExC l E w (d + 2) MX7_group 8 [some (.ref (w.1 7)), some (.ref q), some (.int place), some (.int b3), some (.int b4), some (.int (nI k)), none, none] [] s f Q) a.length ?_ (fun k hk ih => ?_) (-1) 0 rfl ⟨fun c => absurd c (by decide), fun ⟨v, hv, _⟩ => by rw [List.take_zero] at hv; cases hv⟩
  · intro b3 b4 e3 e4
    rw [List.take_length] at e3 e4
    refine vX7_group_8 ⟨0, v3, ?_⟩
    rw [v4]
    refine pk_le a.length a.length (fun _ => ⟨fun c => ?_, fun c => ?_⟩) (fun c => by omega) rfl rfl
    · have cW : zmost a ≤ 20 := by
        have := Int32.lt_iff_toInt_lt.mp c
        have h20 : (20 : Int32).toInt = 20 := rfl
        omega
      refine ⟨fun c2 => ?_, fun c2 => ?_⟩
      · have hneg : ¬ ∃ v ∈ a, v < 0 := fun z => by
          have := Int32.le_iff_toInt_le.mp c2
          have := e4.mpr z
          have h0 : (0 : Int32).toInt = 0 := rfl
          omega
        have hpos : ∀ v ∈ a, ¬ v < 0 := fun v hv z => hneg ⟨v, hv, z⟩
        have hzt := zgroup_col a
        have hvW : ∀ k, k < a.length → ∃ j, j < zmost a ∧ a.getD k 0 = nI j := fun k hk => by
          have hm := getD_mem (0 : Int32) hk
          exact ⟨_, zmost_lt hm (hpos _ hm), (i32_nat (hpos _ hm)).2⟩
        generalize hW : zmost a = W at *
        have e1 : b3 + 1 = nI W := i32_of (by rw [i32_add (p := W) (by rw [e3]; show _ + 1 = _; omega) (by omega) (by omega), nI_toInt (by omega)])
        generalize hGd : (fun (i k : Nat) => if (a.getD k 0 == nI i) = true then some (nI k) else none) = G at *
        have hG1 : ∀ k j, a.getD k 0 = nI j → G j k = some (nI k) := fun k j e => by
          rw [← hGd]
          show (if (a.getD k 0 == nI j) = true then _ else _) = _
          rw [if_pos (beq_iff_eq.mpr e)]
        have hG0 : ∀ k j i, j < W → i < W → a.getD k 0 = nI j → i ≠ j → G i k = none := fun k j i hj hi e hne => by
          rw [← hGd]
          show (if (a.getD k 0 == nI i) = true then _ else _) = _
          rw [if_neg fun z => ?_]
          have := beq_iff_eq.mp z
          rw [e] at this
          exact hne ((nI_eq (by omega) (by omega)).mp this).symm
        have hRl : (zgroup a).length = W := by rw [hzt, List.length_map, List.length_range]
        have hRg : ∀ j, j < W → (zgroup a).getD j [] = col G a.length j := fun j hj => by
          rw [hzt, getD_map (col G a.length) (List.range W) 0 [] (by rw [List.length_range]; exact hj), getD_lt 0 (by rw [List.length_range]; exact hj), List.getElem_range]
        have hcl : ∀ k i, (col G k i).length ≤ k := fun k i => col_len G i k
        rw [e1, nI_clamp (by omega)]
        refine ⟨i32_nn _ (by omega), by omega, (by show f.2.1 + 1 + W ≤ BM; omega), fun a2 f3 ea ef => ?_⟩
        subst ea ef
        refine dn (P := fun k => ∀ fk, MA f W (fun j => (col G k j).length) fk → ExC l E w (d + 2) MX7_group 88 [none, some (.ref q), none, some (.int b3), none, some (.ref f.1), some (.int (nI k)), none] [] s fk Q) a.length ?_ (fun k hk ih => ?_) _ ((MA.start f W).eq (fun j _ => rfl))
        · intro fk hM
          obtain ⟨m1, m2, m3, g, m5, m6⟩ := hM.at
          have hbud := g.2.2.1
          refine vX7_group_88 ⟨0, (g.tgE hqf).trans v3, ?_⟩
          rw [g.lnE hqf, v4, e1, nI_clamp (by omega)]
          refine pk_le a.length a.length (fun _ => ⟨i32_nn _ (by omega), by omega, (by show fk.2.1 + 1 + W ≤ BM; omega), fun a14 f15 ea ef => ?_⟩) (fun c => by omega) rfl rfl
          subst ea ef
          rw [← hRl] at hM
          have hU := TU.start (R := zgroup a) hM
          rw [m5]
          rw [hRl] at hU
          have inner : ∀ k, k ≤ a.length → (∀ fk, TU f (zgroup a) (zgroup a).length (fun j => (col G k j).length) fk → ExC l E w (d + 2) MX7_group 153 [none, some (.ref q), none, none, none, some (.ref f.1), some (.ref (f.1 + 1)), some (.int (nI k - 1))] [] s fk Q) := by
            intro k
            induction k with
            | zero =>
              intro _ fk hU
              exact vX7_group_153 ⟨fun _ => h1 cW hneg fk hU, fun c => absurd (by decide) c⟩
            | succ k ihk =>
              intro hk fk hU
              rw [show nI (k + 1) - 1 = nI k from nI_pred k]
              have hka : k < a.length := by omega
              obtain ⟨i, hiW, hai⟩ := hvW k hka
              have hiR : i < (zgroup a).length := by omega
              have hGi := hG1 k i hai
              have hcs := col_some hGi
              have hMi : (col G (k + 1) i).length = (col G k i).length + 1 := by rw [hcs, List.length_append]; rfl
              obtain ⟨ca, cb⟩ := col_at (K := a.length) hka hGi
              rw [← hRg i hiW] at ca cb
              have g := hU.1
              have hlen1 := hcl k i
              have hrl : ((zgroup a).getD i []).length ≤ 64 := by rw [hRg i hiW]; have := hcl a.length i; omega
              have hb1 : fk.2.2.2 ≤ f.1 := by rw [g.2.1]; exact hcb
              obtain ⟨⟨d1, d2, d3⟩, ⟨d4, d5, d6⟩, ⟨d7, d8⟩, g2, hU2⟩ := hU.dec (M' := fun j => (col G k j).length) hiR hMi cb rfl (fun j hj hne => by rw [col_none (hG0 k i j hiW (by omega) hai hne)])
              refine vX7_group_153 ⟨fun c => absurd c (i32_nn k (by omega)), fun _ => ?_⟩
              rw [g.lnE hqf, v4, hU.2.2.1.2.1, nI_clamp (n := k) (by omega)]
              refine ⟨(g.tgE hqf).trans v3, inB_n hka, nI i, by rw [g.vlE hqf, ← hai]; exact v5 k hka, hU.2.2.1.1, inB_n hiR, nI ((col G k i).length + 1), by rw [nI_clamp (by omega), hU.2.2.1.2.2 i hiR]; exact congrArg (fun z => Value.int (nI z)) hMi, hU.2.2.1.1, inB_n hiR, hb1, fun f27 e27 => ?_⟩
              rw [nI_clamp (by omega), nI_pred] at e27
              subst e27
              refine ⟨(g2.tgE hqf).trans v3, by rw [g2.lnE hqf, v4]; exact inB_n hka, nI i, by rw [g2.vlE hqf, ← hai]; exact v5 k hka, 11, by decide, d4, by rw [d5]; exact inB_n hiR, _, by rw [nI_clamp (by omega)]; exact d6, (g2.tgE hqf).trans v3, by rw [g2.lnE hqf, v4]; exact inB_n hka, nI i, by rw [g2.vlE hqf, ← hai]; exact v5 k hka, d1, by rw [d2]; exact inB_n hiR, _, by rw [nI_clamp (by omega)]; exact d3, d7, by rw [d8]; exact inB_n cb, by rw [g2.2.1]; omega, fun f33 e33 => ?_⟩
              rw [nI_clamp (by omega), ← ca] at e33
              rw [e33, i32_m1]
              exact ihk (by omega) _ hU2
          refine dn (P := fun i => ∀ fk, TU f (zgroup a) i (fun j => (col G a.length j).length) fk → ExC l E w (d + 2) MX7_group 123 [none, some (.ref q), none, some (.int b3), none, some (.ref f.1), some (.ref (f.1 + 1)), some (.int (nI i))] [] s fk Q) W ?_ (fun i hi ih => ?_) _ hU
          · intro fk hU
            have g := hU.1
            refine vX7_group_123 ⟨fun _ => ⟨0, (g.tgE hqf).trans v3, fun y ey => ?_⟩, fun c => absurd ((i32_ltI2 e3 (by omega)).mpr (by omega)) c⟩
            rw [g.lnE hqf, v4] at ey
            rw [ey]
            exact inner a.length (Nat.le_refl _) fk (by rw [hRl]; exact hU)
          · intro fk hU
            have g := hU.1
            have hbud := g.2.2.1
            have hzle := zis_take_le (zgroup a) i
            have hz2 : zis (zgroup a) ≤ 64 := by
              have := zis_group a W (by omega) a.length
              rw [show zgroup a = (List.range W).map (fun i => ((List.range a.length).filter (fun j => a.getD j 0 == nI i)).map nI) from by rw [← hW]; rfl]
              omega
            have hiR : i < (zgroup a).length := by omega
            have hMi : (col G a.length i).length = ((zgroup a).getD i []).length := by rw [hRg i hi]
            obtain ⟨hU2, u1, u2, u3⟩ := hU.row hiR hMi
            have hlen1 := hcl a.length i
            refine vX7_group_123 ⟨fun c => absurd ((i32_ltI2 e3 (by omega)).mp c) (by omega), fun _ => ?_⟩
            rw [hU.2.2.1.2.1, nI_clamp (n := i) (by omega)]
            refine ⟨hU.2.2.1.1, inB_n hiR, nI (col G a.length i).length, hU.2.2.1.2.2 i hiR, i32_nn _ (by omega), ?_⟩
            rw [nI_clamp (by omega)]
            refine ⟨by omega, (by show fk.2.1 + 1 + _ ≤ BM; omega), fun a17 f18 ea ef => ?_⟩
            subst ea ef
            refine ⟨u1, u3, Nat.le_trans hz g.1, by rw [u2]; exact inB_n hiR, by show fk.2.2.2 ≤ _; rw [g.2.1]; omega, fun f19 e => ?_⟩
            rw [e, nI_1]
            exact ih _ hU2
        · intro fk hM
          obtain ⟨m1, m2, m3, g, m5, m6⟩ := hM.at
          obtain ⟨i, hiW, hai⟩ := hvW k hk
          have hGi := hG1 k i hai
          have hM2 := hM.set (M' := fun j => (col G (k + 1) j).length) (j := i) (v := (col G k i).length + 1) (by
            show (col G (k + 1) i).length = _
            rw [col_some hGi, List.length_append]; rfl) (fun j hj hne => by
            show (col G (k + 1) j).length = _
            rw [col_none (hG0 k i j hiW hj hai hne)])
          refine vX7_group_88 ⟨0, (g.tgE hqf).trans v3, ?_⟩
          rw [g.lnE hqf, v4, m2, nI_clamp (n := k) (by omega)]
          refine pk_le a.length k (fun c => by omega) (fun _ => ⟨(g.tgE hqf).trans v3, inB_n hk, nI i, by rw [g.vlE hqf, ← hai]; exact v5 k hk, m1, inB_n hiW, nI (col G k i).length, by rw [nI_clamp (by omega)]; exact m3 i hiW, m1, inB_n hiW, by rw [m6]; exact hcb, fun f25 e => ?_⟩) rfl rfl
          rw [nI_clamp (by omega), nI_1] at e
          rw [e, nI_1]
          exact ih _ hM2
      · have hneg : ∃ v ∈ a, v < 0 := e4.mp (by
          have := mt Int32.le_iff_toInt_le.mpr c2
          have h0 : (0 : Int32).toInt = 0 := rfl
          omega)
        have hb4 : b4 < 0 := i32_neg.mpr (e4.mpr hneg)
        refine C_mints hst (by omega) (fun c => absurd hb4 c) (fun c => ?_) (fun _ => h3 cW hneg)
        have := e4.mpr hneg
        omega
    · refine C_wrong hst (Q := Q) (h2 ?_) (fun _ _ _ => rfl)
      have := mt Int32.lt_iff_toInt_lt.mpr c
      have h20 : (20 : Int32).toInt = 20 := rfl
      omega
  · intro b3 b4 e3 e4
    refine vX7_group_8 ⟨0, v3, ?_⟩
    rw [v4, nI_clamp (by omega)]
    refine pk_le a.length k (fun c => by omega) (fun _ => ⟨v3, inB_n hk, _, v5 k hk, fun y10 e10 => ⟨v3, inB_n hk, _, v5 k hk, fun y12 e12 => ?_⟩⟩) rfl rfl
    rw [nI_1]
    have htk := take_succ_getD a 0 k hk
    generalize a.getD k 0 = v at *
    have hv := i32_rng v
    refine ih y10 y12 ?_ ?_
    · rw [htk, zmost_snoc, e10]
      by_cases cn : v < 0
      · rw [if_pos cn, Nat.max_zero]
        have := i32_neg.mp cn
        rw [if_neg (fun z => by have := Int32.lt_iff_toInt_lt.mp z; omega)]
        exact e3
      · rw [if_neg cn]
        have h1 := (i32_nat cn).1
        by_cases c : b3 < v
        · rw [if_pos c]
          have := Int32.lt_iff_toInt_lt.mp c
          rw [Nat.max_eq_right (by omega)]
          omega
        · rw [if_neg c]
          have := mt Int32.lt_iff_toInt_lt.mpr c
          rw [Nat.max_eq_left (by omega)]
          exact e3
    · rw [htk]
      have hex : (∃ u ∈ a.take k ++ [v], u < 0) ↔ (b4.toInt < 0 ∨ v.toInt < 0) := by
        constructor
        · rintro ⟨u, hu, hu2⟩
          rcases List.mem_append.mp hu with h | h
          · exact Or.inl (e4.mpr ⟨u, h, hu2⟩)
          · rcases List.mem_cons.mp h with rfl | h
            · exact Or.inr (i32_neg.mp hu2)
            · cases h
        · rintro (h | h)
          · obtain ⟨u, hu, hu2⟩ := e4.mp h
            exact ⟨u, List.mem_append_left _ hu, hu2⟩
          · exact ⟨v, List.mem_append_right _ List.mem_cons_self, i32_neg.mpr h⟩
      rw [hex, e12]
      by_cases c : v < b4
      · rw [if_pos c]
        have := Int32.lt_iff_toInt_lt.mp c
        omega
      · rw [if_neg c]
        have := mt Int32.lt_iff_toInt_lt.mpr c
        omega
theorem zgroup_w {a : List Int32} (ha : a.length ≤ 64) (h : zmost a ≤ 20) : ZW (zT (zgroup a)) := by
  refine ⟨?_, ?_, fun r hr => ?_⟩
  · unfold zgroup
    rw [List.length_map, List.length_range]; exact h
  · have := zis_group a (zmost a) (by omega) a.length
    unfold zgroup
    omega
  · unfold zgroup at hr
    obtain ⟨i, hi, rfl⟩ := List.mem_map.mp hr
    rw [List.length_map]
    refine Nat.le_trans (List.length_filter_le _ _) ?_
    rw [List.length_range]; exact ha
theorem C_b18 (hst : l.stackTraces = false) {n md : Nat} {x : Th} {place : Int32} (h : COk E n md [x] s f) (hQ : ∀ o s' f', cop E n md (zbi1 18 x) place s f o s' f' → Q o s' f') : EvC l E w (d + 3) MX7_work [.ref (w.1 7), .int 18, .int place] s f Q := by
  obtain ⟨hx, wx, h26, h83⟩ := h.v1
  obtain ⟨⟨-, -, h40, hmd⟩, ⟨hr, hz, hcb⟩, -, -⟩ := h
  have hz1 : ez E ≤ f.1 := Nat.le_trans hz hcb
  refine EvC.pfrz (eX7_work hst fun y1 ey => ?_)
  rw [h26, nI_pred] at ey
  subst ey
  rw [nI_clamp (by omega)]
  have g := fnew_gw f 30
  have hbud := g.2.2.1
  rw [CZ30] at hbud
  refine ⟨inB_n (by omega), _, rfl, hx.isR, br_f (by decide) (br_f (by decide) (br_f (by decide) (br_f (by decide) (br_f (by decide) (br_f (by decide) (br_f (by decide) (br_f (by decide) (br_f (by decide) (br_t rfl ⟨(by show f.2.1 + 1 + 2 ≤ BM; omega), fun a3 f4 e1 e2 => ?_⟩)))))))))⟩
  subst e1 e2
  have hb := zbi1_18 x
  refine C_asRow hst g hcb (by omega) hx (fun c p hp => ⟨p, rfl, ?_⟩) (fun c => hQ _ _ _ (cop.tr (k := 3) (hb.trans (if_pos c)) rfl h40 (by omega)))
  rw [if_neg (fun z => z c)] at hb
  have wx' := wx
  rw [zk1 c] at wx'
  have wl : (zr x).length ≤ 64 := wx'
  obtain ⟨p', q, v1, v2, v3, v4, v5, v6, v7, v8, v9⟩ := rcT.row hp
  cases v1
  have hp1 : p < f.1 := Nat.lt_of_lt_of_le v2 hcb
  refine ⟨g.ocE hp1 v3, q, by rw [g.vlE hp1]; exact v4, ?_⟩
  refine C_group hst (g.rI hcb v9) (Nat.lt_of_lt_of_le v5.2 (Nat.le_trans hcb g.1)) wl (Nat.le_succ_of_le hz1) (Nat.le_succ_of_le hcb) (by omega) (fun c2 => hQ _ _ _ (cop.tr (k := 2) (hb.trans (if_pos c2)) rfl h40 (by omega))) (fun c2 c3 => hQ _ _ _ (cop.tr (k := 1) (hb.trans (by rw [if_neg (by omega), if_pos c3])) rfl h40 (by show (fnew f 30).2.1 + 225 ≤ _; omega))) (fun c2 c3 f' hT => ⟨_, rfl, ?_⟩)
  exact C_tabTU hst (x := x) (hb.trans (by rw [if_neg (by omega), if_neg c3])) (zgroup_w wl c2) hcb hz1 hT h26 (by omega) h40 hmd hQ
end CGr
