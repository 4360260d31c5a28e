/-! THE MODEL: built-ins of one thing -/
theorem zof_rev {x : Th} (wx : ZW x) (hx : ¬ zk x = 0) : ZW (zof (zk x) (ze x).reverse) := by
  rcases zcases wx with ⟨v, rfl⟩ | ⟨a, rfl, g1⟩ | ⟨a, rfl, g1, g2, g3⟩ | ⟨tx, rfl, g1, g2, g3, g4⟩
  · exact absurd rfl hx
  · show ZW (zof 1 (a.map zI).reverse)
    rw [← List.map_reverse, zof1]
    show a.reverse.length ≤ 64
    rw [List.length_reverse]; exact g1
  · show ZW (zof 2 (a.map zR).reverse)
    rw [← List.map_reverse, zof2]
    refine ⟨by rw [List.length_reverse]; exact g1, ?_, fun r hr => g3 r (List.mem_reverse.mp hr)⟩
    unfold zis
    rw [List.map_reverse, List.sum_reverse]; exact g2
  · show ZW (zP (ze (zP tx)).reverse)
    rw [zl_zP]
    refine zw_pack.mpr ⟨by rw [List.length_reverse]; exact g1, by rw [List.map_reverse, List.sum_reverse]; exact g2, ?_, fun x hx => g4 x (List.mem_reverse.mp hx)⟩
    have : ∀ l : List Th, (∀ x ∈ l, zd x ≤ 3) → zd (zsp l) ≤ 3 := by
      intro l
      induction l with
      | nil => intro _; exact Nat.zero_le _
      | cons y r ih =>
        intro h
        rw [zd_cons]
        exact Nat.max_le.mpr ⟨h y List.mem_cons_self, ih fun z hz => h z (List.mem_cons_of_mem _ hz)⟩
    exact this _ fun x hx => Nat.le_trans (zd_mem tx x (List.mem_reverse.mp hx)) g3
theorem zel_kind {x : Th} {i : Nat} (hi : i < zn x) : (zk x = 1 → zk (zel x i) = 0) ∧ (zk x = 2 → zk (zel x i) = 1) := by
  refine ⟨fun h => ?_, fun h => ?_⟩
  · have e := zk1 h
    rw [e] at hi ⊢
    have : zel (zR (zr x)) i = zI ((zr x).getD i 0) := getD_map zI _ 0 (zI 0) hi
    rw [this]; rfl
  · have e := zk2 h
    rw [e] at hi ⊢
    have : zel (zT (zt x)) i = zR ((zt x).getD i []) := getD_map zR _ [] (zI 0) hi
    rw [this]; rfl
theorem zfolds_some {k : Nat} : ∀ (t : List (List Int32)) (v : List Int32), v.length = t.length → (∀ i, i < t.length → zfold k (t.getD i []) = some (v.getD i 0)) → zfolds k t = some v
  | [], [], _, _ => rfl
  | x :: r, y :: q, h, hk => by
    have h0 : zfold k x = some y := hk 0 (Nat.succ_pos _)
    show (match zfold k x, zfolds k r with | some x, some y => some (x :: y) | _, _ => none) = _
    rw [h0, zfolds_some r q (Nat.succ.inj h) (fun i hi => hk (i + 1) (Nat.succ_lt_succ hi))]
  | [], _ :: _, h, _ => by cases h
  | _ :: _, [], h, _ => by cases h
theorem zfolds_none {k : Nat} : ∀ (t : List (List Int32)), (∃ r ∈ t, zfold k r = none) → zfolds k t = none
  | [], h => by obtain ⟨r, hr, _⟩ := h; cases hr
  | x :: r, h => by
    show (match zfold k x, zfolds k r with | some x, some y => some (x :: y) | _, _ => none) = none
    obtain ⟨z, hz, e⟩ := h
    rcases List.mem_cons.mp hz with rfl | hz
    · rw [e]
    · rw [zfolds_none r ⟨z, hz, e⟩]
      cases zfold k x <;> rfl
theorem zfold_ne {k : Nat} {a : List Int32} (h : k = 9 ∨ a ≠ []) : ∃ v, zfold k a = some v := by
  unfold zfold
  by_cases h9 : k = 9
  · rw [if_pos h9]; exact ⟨_, rfl⟩
  · rw [if_neg h9]
    match a, h with
    | [], h => exact absurd rfl (h.resolve_left h9)
    | x :: r, _ => exact ⟨_, rfl⟩
theorem zfold_nil {k : Nat} (h : k ≠ 9) : zfold k [] = none := if_neg h
theorem zw_zn {t : Th} (h : ZW t) : zn t ≤ 64 := by
  rcases zcases h with ⟨v, rfl⟩ | ⟨a, rfl, g1⟩ | ⟨a, rfl, g1, g2, g3⟩ | ⟨tx, rfl, g1, g2, g3, g4⟩
  · exact Nat.zero_le _
  · exact g1
  · show a.length ≤ 64; omega
  · rw [zn_ze, zl_zP]; omega
section MF
variable {l : Launch} {E : EN} {w : MO} {d : Nat} {s s0 : MS} {Q : Option Value → MS → Prop} {b n md b1 : Nat}
/-- sum, max, min of a table's rows -/
theorem M_oft221 (hst : l.stackTraces = false) (hC : MCtx b n md s0) {p k : Nat} {a : List (List Int32)} (hr : rmT (s0.2.2.1 104) b true (zT a) p 0) (wa : ZW (zT a)) (hk : k = 9 ∨ k = 10 ∨ k = 11) (hQ1 : ∀ v, zfolds k a = some v → ∀ s', mop b n md (.inr (zR v)) s0 s' → Q none s') (hQ2 : zfolds k a = none → ∀ s', mop b n md (.inl 5) s0 s' → Q none s') :
    ∀ m i (v : List Int32) (s : MS), i + m = a.length → v.length = i → (∀ j, j < i → zfold k (a.getD j []) = some (v.getD j 0)) → MAcc b n s0 b (v.map zI) s → ExM l E w (d + 4) MX10_ofOneThing 221 [some (.ref w.1), some (.int (nI k)), some (.int (nI p)), some (.int (nI n)), none, some (.int (nI i)), none] [] s Q := by
  have hb := hC.1
  have hn := hC.2.1
  have ha20 : a.length ≤ 20 := wa.1
  intro m
  induction m with
  | zero =>
    intro i v s hi hvl hv hA
    have hi : i = a.length := hi
    refine vX10_ofOneThing_221 (M_sizeA hst hA hr (by omega) ⟨_, rfl, pk_le a.length i (fun _ => ?_) (fun c => by omega) rfl rfl⟩)
    refine K_row hst hC hA (fun s' q => hQ1 v (zfolds_some a v (by omega) (fun j hj => hv j (by omega))) s' ?_)
    rw [zmk_ok (show ZW (zR v) by show v.length ≤ 64; omega)] at q
    exact q
  | succ m ih =>
    intro i v s hi hvl hv hA
    have hel : zel (zT a) i = zR (a.getD i []) := getD_map zR a [] (zI 0) (by omega)
    have hmem := getD_mem [] (show i < a.length by omega)
    refine vX10_ofOneThing_221 (M_sizeA hst hA hr (by omega) ⟨_, rfl, pk_le a.length i (fun c => by omega) (fun _ => ?_) rfl rfl⟩)
    refine M_partA hst hA hr (by omega) (show i < a.length by omega) (by show 1 < 2; decide) (by show ¬ zk (zel (zT a) i) = 0; rw [hel]; show ¬ 1 = 0; decide) (fun q hq => ⟨_, rfl, ?_⟩)
    have hq : rmT (s0.2.2.1 104) b true (zel (zT a) i) q 0 := hq
    rw [hel] at hq
    generalize hga : a.getD i [] = r at hq hmem
    have r64 : r.length ≤ 64 := wa.2.2 r hmem
    have nx : ∀ z, zfold k r = some z → ∀ s2 : MS, MAcc b n s0 b (v.map zI ++ [zI z]) s2 → ExM l E w (d + 4) MX10_ofOneThing 221 [some (.ref w.1), some (.int (nI k)), some (.int (nI p)), some (.int (nI n)), none, some (.int (nI i + 1)), none] [] s2 Q := by
      intro z hz s2 q2
      rw [nI_1]
      refine ih (i + 1) (v ++ [z]) s2 (by omega) (by rw [List.length_append, hvl]; rfl) (fun j hj => ?_) (by rw [List.map_append]; exact q2)
      by_cases e : j = i
      · subst e
        rw [hga, hz, ← hvl, getD_last]
      · rw [getD_app1 _ _ (by omega)]; exact hv j (by omega)
    have hnv : n + (v.map zI).length < 8900 := by rw [List.length_map]; omega
    refine pk_le k 9 (fun c => ?_) (fun c => ?_) rfl rfl
    · exact M_reduced hst hA hq hb hk (fun c' => by omega) (fun z hz => ⟨_, rfl, hA.pI hst hnv (nx z hz)⟩)
    · refine M_sizeA hst hA hq (by omega) ⟨_, rfl, ?_⟩
      refine bn_eq r.length 0 (fun c2 => ?_) (fun c2 => ?_) rfl rfl
      · exact M_reduced hst hA hq hb hk (fun _ e => c2 (by rw [e]; rfl)) (fun z hz => ⟨_, rfl, hA.pI hst hnv (nx z hz)⟩)
      · have : r = [] := List.length_eq_zero_iff.mp c2
        refine K_tr hst hC hA (by omega) 5 rfl (fun s' q => hQ2 (zfolds_none a ⟨r, hmem, ?_⟩) s' q)
        rw [this]; exact zfold_nil (by omega)
/-- size, widths, kind, sum, max, min, scan, sort, grade, back -/
theorem M_ofOneThing (hst : l.stackTraces = false) {x : Th} {k : Nat} {v : Int32} (hi : MOk b n md [x] s) (hv : v = s.2.2.1 107 n) (hk : 6 ≤ k ∧ k ≤ 15) (hs : (k = 6 → ¬ zk x = 0) ∧ (k = 7 → zk x = 2) ∧ (k = 9 → zk x < 3) ∧ (10 ≤ k ∧ k ≤ 13 → zk x = 1 ∨ zk x = 2) ∧ (k = 14 → zk x = 1) ∧ (k = 15 → ¬ zk x = 0)) (hQ : ∀ s', mop b n md (zbi1 k x) s s' → Q none s') : EvM l E w (d + 5) MX10_ofOneThing [.ref w.1, .int (nI k), .int v, .int (nI n)] s Q := by
  have ha := hi.acc
  have hC := hi.ctx
  obtain ⟨m4, hx, wx⟩ := hi.one
  have hb := hC.1
  have hn := hC.2.1
  have zx := zk_le x
  rw [← hv] at hx
  refine eX10_ofOneThing hst (M_kindAt hst (by rw [← hv]; exact hx) (by omega) (by omega) ⟨_, rfl, ?_⟩)
  refine bn_eq k 6 (fun c6 => bn_eq k 8 (fun c8 => bn_eq k 7 (fun c7 => bn_eq k 15 (fun c15 => ?_) (fun c15 => ?_) rfl rfl) (fun c7 => ?_) rfl rfl) (fun c8 => ?_) rfl rfl) (fun c6 => ?_) rfl rfl
  · refine pk_le k 11 (fun c11 => ?_) (fun c11 => ?_) rfl rfl
    · have hk3 : k = 9 ∨ k = 10 ∨ k = 11 := by omega
      refine bn_eq (zk x) 0 (fun x0 => bn_eq (zk x) 1 (fun x1 => ?_) (fun x1 => ?_) rfl rfl) (fun x0 => ?_) rfl rfl
      · have x2 : zk x = 2 := by omega
        obtain ⟨-, p, rfl, hr⟩ := hx.thing x0
        have ex := zk2 x2
        have heq : (∀ v, zfolds k (zt x) = some v → zbi1 k x = .inr (zR v)) ∧ (zfolds k (zt x) = none → zbi1 k x = .inl 5) := by
          rcases hk3 with rfl | rfl | rfl
          · exact (zbi1_9 x).2.2.1 x2
          · exact (zbi1_10 x).2.2.1 x2
          · exact (zbi1_11 x).2.2.1 x2
        rw [ex] at hr wx
        exact M_oft221 hst hC hr wx hk3 (fun v e s' q => hQ s' (by rw [heq.1 v e]; exact q)) (fun e s' q => hQ s' (by rw [heq.2 e]; exact q)) (zt x).length 0 [] _ (by omega) rfl (fun j hj => absurd hj (Nat.not_lt_zero j)) ha
      · obtain ⟨-, p, rfl, hr⟩ := hx.thing x0
        have ex := zk1 x1
        have heq : (∀ v, zfold k (zr x) = some v → zbi1 k x = .inr (zI v)) ∧ (zfold k (zr x) = none → zbi1 k x = .inl 5) := by
          rcases hk3 with rfl | rfl | rfl
          · exact (zbi1_9 x).2.1 x1
          · exact (zbi1_10 x).2.1 x1
          · exact (zbi1_11 x).2.1 x1
        rw [ex] at hr
        refine pk_le k 9 (fun c9 => ?_) (fun c9 => ?_) rfl rfl
        · exact M_reduced hst ha hr hb hk3 (fun c' => by omega) (fun z hz => ⟨_, rfl, K_int hst hC ha (fun s' q => hQ s' (by rw [heq.1 z hz]; exact q))⟩)
        · refine M_sizeA hst ha hr (by omega) ⟨_, rfl, ?_⟩
          have hl := (rmT_head hr).2.2.2
          have hl : p + 2 + (zr x).length ≤ b := hl
          refine bn_eq (zr x).length 0 (fun c2 => ?_) (fun c2 => ?_) rfl rfl
          · exact M_reduced hst ha hr hb hk3 (fun _ e => c2 (by rw [e]; rfl)) (fun z hz => ⟨_, rfl, K_int hst hC ha (fun s' q => hQ s' (by rw [heq.1 z hz]; exact q))⟩)
          · have e0 : zr x = [] := List.length_eq_zero_iff.mp c2
            exact K_tr hst hC ha (by omega) 5 rfl (fun s' q => hQ s' (by rw [heq.2 (by rw [e0]; exact zfold_nil (by omega))]; exact q))
      · have k9 : k = 9 := by
          have := hs.2.2.2.1
          omega
        subst k9
        have ex := zk0 x0
        have hvv : v = zv x := by rw [ex] at hx; exact (rmV.int hx).2
        rw [hvv]
        refine K_int hst hC ha (fun s' q => hQ s' ?_)
        rw [(zbi1_9 x).1 x0, ex]; exact q
    · have hk3 : k = 12 ∨ k = 13 ∨ k = 14 := by omega
      have x12 : zk x = 1 ∨ (zk x = 2 ∧ k ≠ 14) := by
        have h1 := hs.2.2.2.1
        have h2 := hs.2.2.2.2.1
        omega
      obtain ⟨-, p, rfl, hr⟩ := hx.thing (by omega)
      exact M_eachRow hst hC ha hr wx hk3 x12 (fun s' q => ⟨rfl, hQ s' q⟩)
  · subst c15
    have x0 := hs.2.2.2.2.2 rfl
    obtain ⟨-, p, rfl, hr⟩ := hx.thing x0
    have hz : zbi1 15 x = zmk (zof (zk x) (ze x).reverse) := by rw [zbi1_15, if_neg x0, zmk_ok (zof_rev wx x0)]
    rw [hz] at hQ
    have hh := rmT_head hr
    have hze := zn_ze x
    have h64 := zw_zn wx
    refine M_sizeA hst ha hr (by omega) ⟨_, rfl, fun y16 e16 => ?_⟩
    have main : ∀ (m : Nat) (s' : MS) (y : Int32), m ≤ zn x → y = nI m + (-1) → MAcc b n s b (((ze x).drop m).reverse) s' → ExM l E w (d + 5) MX10_ofOneThing 112 [some (.ref w.1), none, some (.int (nI p)), some (.int (nI n)), some (.int (nI (zk x))), some (.int y), none] [] s' Q := by
      intro m
      induction m with
      | zero =>
        intro s' y hm ey hA
        have ey : y = -1 := ey.trans (by decide)
        subst ey
        refine vX10_ofOneThing_112 ⟨fun _ => ?_, fun c => absurd (by decide) c⟩
        rw [List.drop_zero] at hA
        have hmem : ∀ v ∈ (ze x).reverse, ∃ i, i < zn x ∧ v = zel x i := by
          intro v hv
          obtain ⟨i, hi, e⟩ := List.getElem_of_mem (List.mem_reverse.mp hv)
          exact ⟨i, by omega, by rw [← e]; exact (getD_lt _ hi).symm⟩
        refine K_bm hst hC hA (by omega) (fun c v hv => ?_) (fun c v hv => ?_) (fun v hv => ?_) hQ
        · obtain ⟨i, hi, rfl⟩ := hmem v hv
          exact (zel_kind hi).1 c
        · obtain ⟨i, hi, rfl⟩ := hmem v hv
          exact (zel_kind hi).2 c
        · obtain ⟨i, hi, rfl⟩ := hmem v hv
          exact zw_zel wx i
      | succ m ih =>
        intro s' y hm ey hA
        have ey : y = nI m := by rw [ey, pk_m1]
        subst ey
        have hl : (((ze x).drop (m + 1)).reverse).length = zn x - (m + 1) := by rw [List.length_reverse, List.length_drop]; omega
        refine vX10_ofOneThing_112 ⟨fun c => absurd c (nI_pos (by omega)), fun _ => ?_⟩
        refine hA.pE hst hr (by omega) (by omega) (by omega) (fun s2 q2 => ?_)
        have hlen20 : zn x ≤ 157600 := by omega
        refine ih s2 _ (by omega) rfl ?_
        · have e : (ze x).drop m = zel x m :: (ze x).drop (m + 1) := by
            show _ = (ze x).getD m (zI 0) :: _
            rw [getD_lt _ (by omega)]; exact List.drop_eq_getElem_cons (by omega)
          rw [e, List.reverse_cons]
          exact q2
    refine main (zn x) _ y16 (Nat.le_refl _) (by rw [e16, Int32.sub_eq_add_neg]) ?_
    rw [List.drop_of_length_le (by omega)]
    exact ha
  · subst c7
    have x2 := hs.2.1 rfl
    have ex := zk2 x2
    obtain ⟨-, p, rfl, hr⟩ := hx.thing (by omega)
    have hz : zbi1 7 x = .inr (zR ((zt x).map (fun r => nI r.length))) := by rw [zbi1_7, if_neg (by omega)]
    rw [hz] at hQ
    rw [ex] at hr wx
    generalize zt x = a at hr wx hQ
    have ha20 : a.length ≤ 20 := wx.1
    have main : ∀ m i (s' : MS), i + m = a.length → MAcc b n s b (((a.take i).map (fun r => nI r.length)).map zI) s' → ExM l E w (d + 5) MX10_ofOneThing 56 [some (.ref w.1), none, some (.int (nI p)), some (.int (nI n)), none, some (.int (nI i)), none] [] s' Q := by
      intro m
      induction m with
      | zero =>
        intro i s' hi hA
        have hi : i = a.length := hi
        rw [List.take_of_length_le (by omega)] at hA
        refine vX10_ofOneThing_56 (M_sizeA hst hA hr (by omega) ⟨_, rfl, pk_le a.length i (fun _ => ?_) (fun c => by omega) rfl rfl⟩)
        refine K_row hst hC hA (fun s' q => hQ s' ?_)
        rw [zmk_ok (show ZW (zR (a.map (fun r => nI r.length))) by show (a.map _).length ≤ 64; rw [List.length_map]; omega)] at q
        exact q
      | succ m ih =>
        intro i s' hi hA
        have hl : (((a.take i).map (fun r => nI r.length)).map zI).length = i := by rw [List.length_map, List.length_map, List.length_take]; omega
        have hel : zel (zT a) i = zR (a.getD i []) := getD_map zR a [] (zI 0) (by omega)
        refine vX10_ofOneThing_56 (M_sizeA hst hA hr (by omega) ⟨_, rfl, pk_le a.length i (fun c => by omega) (fun _ => ?_) rfl rfl⟩)
        refine M_partA hst hA hr (by omega) (show i < a.length by omega) (by show 1 < 2; decide) (by show ¬ zk (zel (zT a) i) = 0; rw [hel]; show ¬ 1 = 0; decide) (fun q hq => ⟨_, rfl, ?_⟩)
        have hq : rmT (s.2.2.1 104) b true (zel (zT a) i) q 0 := hq
        rw [hel] at hq
        refine M_sizeA hst hA hq (by omega) ⟨_, rfl, hA.pI hst (by omega) (fun s2 q2 => ?_)⟩
        rw [nI_1]
        refine ih (i + 1) s2 (by omega) ?_
        rw [take_succ_getD a [] i (by omega), List.map_append, List.map_append]
        exact q2
    exact main a.length 0 _ (by omega) ha
  · subst c8
    rw [zbi1_8] at hQ
    exact K_int hst hC ha hQ
  · subst c6
    have x0 := hs.1 rfl
    obtain ⟨-, p, rfl, hr⟩ := hx.thing x0
    rw [zbi1_6, if_neg x0] at hQ
    exact M_sizeA hst ha hr (by omega) ⟨_, rfl, K_int hst hC ha hQ⟩
end MF
