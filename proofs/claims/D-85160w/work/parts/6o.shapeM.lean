/-! THE MODEL: flat, turn, group -/
def zpp (e : Th) : List Int32 := if zk e = 0 then [zv e] else zr e
theorem zflat_eq {x : Th} (h : zk x = 2 ∨ zk x = 3) : zflat x = if (ze x).all (fun t => decide (zk t < 2)) = true then some ((ze x).map zpp).flatten else none := by
  unfold zflat
  rcases h with h | h
  · rw [if_pos h]
    have e := zk2 h
    have e1 : ze x = (zt x).map zR := (congrArg ze e).trans rfl
    rw [e1, if_pos, List.map_map]
    · congr 2
      exact ((List.map_congr_left (fun r _ => rfl)).trans (List.map_id _)).symm
    · rw [List.all_eq_true]
      intro t ht
      obtain ⟨r, _, rfl⟩ := List.mem_map.mp ht
      exact decide_eq_true (by show 1 < 2; decide)
  · rw [if_neg (by omega), if_pos h]
    congr 2
theorem zmax_le {l : List Nat} {n : Nat} (h : ∀ x ∈ l, x ≤ n) : zmax l ≤ n := by
  induction l with
  | nil => exact Nat.zero_le n
  | cons a r ih => exact Nat.max_le.mpr ⟨h a List.mem_cons_self, ih fun x hx => h x (List.mem_cons_of_mem _ hx)⟩
theorem le_zmax {l : List Nat} {x : Nat} (h : x ∈ l) : x ≤ zmax l := by
  induction l with
  | nil => cases h
  | cons a r ih =>
    rcases List.mem_cons.mp h with rfl | h
    · exact Nat.le_max_left ..
    · exact Nat.le_trans (ih h) (Nat.le_max_right ..)
theorem zmax_snoc (a : Nat) : ∀ l : List Nat, zmax (l ++ [a]) = max (zmax l) a
  | [] => by show max a 0 = max 0 a; omega
  | x :: r => by
    show max x (zmax (r ++ [a])) = max (max x (zmax r)) a
    rw [zmax_snoc a r]; omega
section MS1
variable {l : Launch} {E : EN} {w : MO} {d : Nat} {s s0 : MS} {Q : Option Value → MS → Prop} {b n md b1 : Nat}
/-- whether a part of a pack is an INT -/
theorem M_isIntA (hst : l.stackTraces = false) {vs : List Th} {x : Th} {p i : Nat} (ha : MAcc b n s0 b1 vs s) (hr : rmT (s0.2.2.1 104) b true x p 0) (hx : zk x = 3) (hb : b ≤ 157600) (hi : i < zn x) (h0 : zk (zel x i) = 0 → Q (some (.int 1)) s) (h1 : ¬ zk (zel x i) = 0 → Q (some (.int 0)) s) : EvM l E w d MX10_isInt [.ref w.1, .int (nI p), .int (nI i)] s Q := by
  obtain ⟨g1, g2⟩ := rmT_packAt hx hr hi
  refine M_isInt hst (by omega) (fun c => ?_) (fun c => ?_)
  · rw [ha.cell (by omega)] at c
    rcases g2 with ⟨a1, _⟩ | ⟨a1, a2, _⟩
    · exact h0 a1
    · rw [a2] at c; exact absurd c (by decide)
  · rw [ha.cell (by omega)] at c
    rcases g2 with ⟨a1, a2, _⟩ | ⟨a1, _⟩
    · exact absurd a2 c
    · exact h1 a1
theorem M_flat (hst : l.stackTraces = false) {x : Th} {v : Int32} (hi : MOk b n md [x] s) (hv : v = s.2.2.1 107 n) (hx : zk x = 2 ∨ zk x = 3) (hQ : ∀ s', mop b n md (zbi1 16 x) s s' → Q none s') : EvM l E w (d + 4) MX10_shapes [.ref w.1, .int 16, .int v, .int (nI n)] s Q := by
  have ha := hi.acc
  have hC := hi.ctx
  have hn := hC.2.1
  have hb := hC.1
  obtain ⟨m4, hxv, wx⟩ := hi.one
  rw [← hv] at hxv
  obtain ⟨-, p, rfl, hr⟩ := hxv.thing (by omega)
  have hh := rmT_head hr
  have hze := zn_ze x
  have h64 := zw_zn wx
  have heq := zbi1_16 x
  rw [zflat_eq hx] at heq
  have hmemi : ∀ i, i < zn x → zel x i ∈ ze x := fun i hi => getD_mem _ (by omega)
  have hel64 : ∀ i, (zpp (zel x i)).length ≤ 64 := by
    intro i
    have := zw_zel wx i
    unfold zpp
    split
    · show 1 ≤ 64; decide
    · rcases zk_c (zel x i) with e | e | e | e
      · omega
      · rw [zk1 e] at this; exact this
      · rw [zk2 e]; exact Nat.zero_le _
      · have h0 : zr (zel x i) = [] := by
          match zel x i, e with
          | .branch _ _ _, _ => rfl
        rw [h0]; exact Nat.zero_le _
  have hlen : ∀ i, i ≤ zn x → (((ze x).take i).map zpp).flatten.length ≤ 64 * i := by
    intro i
    induction i with
    | zero => intro _; exact Nat.le_refl 0
    | succ i ih =>
      intro hi
      have h1 := ih (by omega)
      have h2 := hel64 i
      rw [take_succ_getD (ze x) (zI 0) i (by omega), List.map_append, List.flatten_append, List.length_append]
      show _ + ([zpp (zel x i)]).flatten.length ≤ _
      rw [List.flatten_singleton]; omega
  refine eX10_shapes hst ⟨inB_n (by omega), fun y1 e1 => ⟨fun c => absurd rfl c, fun _ => ?_⟩⟩
  rw [nI_clamp (by omega), hh.2.1] at e1
  subst e1
  -- the second time
  have put : (ze x).all (fun t => decide (zk t < 2)) = true → (((ze x).map zpp).flatten.length ≤ 64) → ∀ m i (s' : MS), i + m = zn x → MAcc b n s b ((((ze x).take i).map zpp).flatten.map zI) s' → ExM l E w (d + 4) MX10_shapes 143 [some (.ref w.1), none, some (.int (nI p)), some (.int (nI n)), some (.int (nI (zk x))), none, none, some (.int (nI i)), none, none] [] s' Q := by
    intro hall h64' m
    have hle : ∀ i, (((ze x).take i).map zpp).flatten.length ≤ 64 := by
      intro i
      have : ((ze x).map zpp).flatten.length = (((ze x).take i).map zpp).flatten.length + (((ze x).drop i).map zpp).flatten.length := by
        rw [← List.length_append, ← List.flatten_append, ← List.map_append, List.take_append_drop]
      omega
    have hQ' : ∀ s', mop b n md (.inr (zR ((ze x).map zpp).flatten)) s s' → Q none s' := by
      have := heq.2 _ (by rw [if_pos hall])
      rw [this, if_neg (by omega)] at hQ
      exact hQ
    induction m with
    | zero =>
      intro i s' hi hA
      have hi : i = zn x := hi
      rw [List.take_of_length_le (by omega)] at hA
      refine vX10_shapes_143 (M_sizeA hst hA hr (by omega) ⟨_, rfl, pk_le (zn x) i (fun _ => K_row hst hC hA (fun s2 q => hQ' s2 ?_)) (fun c => by omega) rfl rfl⟩)
      rw [zmk_ok (show ZW (zR ((ze x).map zpp).flatten) from h64')] at q
      exact q
    | succ m ih =>
      intro i s' hi hA
      have hel := hmemi i (by omega)
      have hk2 : zk (zel x i) < 2 := of_decide_eq_true (List.all_eq_true.mp hall _ hel)
      have hts : ((((ze x).take (i + 1)).map zpp).flatten.map zI) = (((ze x).take i).map zpp).flatten.map zI ++ (zpp (zel x i)).map zI := by
        rw [take_succ_getD (ze x) (zI 0) i (by omega), List.map_append, List.flatten_append, List.map_append]
        show _ ++ ([zpp (zel x i)]).flatten.map zI = _
        rw [List.flatten_singleton]
      have hl1 := hle i
      have hl2 : (((ze x).take i).map zpp).flatten.length + (zpp (zel x i)).length ≤ 64 := by
        have := hle (i + 1)
        have e := congrArg List.length hts
        rw [List.length_append, List.length_map, List.length_map, List.length_map] at e
        omega
      have nx := ih (i + 1)
      -- a row
      have hrow : zk (zel x i) = 1 → ExM l E w (d + 4) MX10_shapes 182 [some (.ref w.1), none, some (.int (nI p)), some (.int (nI n)), some (.int (nI (zk x))), none, none, some (.int (nI i)), some (.int (nI 0)), none] [] s' Q := by
        intro c1
        have epp : zpp (zel x i) = zr (zel x i) := if_neg (by omega)
        rw [epp] at hts hl2
        have main : ∀ m' j (s2 : MS), j + m' = (zr (zel x i)).length → MAcc b n s b ((((ze x).take i).map zpp).flatten.map zI ++ ((zr (zel x i)).take j).map zI) s2 → ExM l E w (d + 4) MX10_shapes 182 [some (.ref w.1), none, some (.int (nI p)), some (.int (nI n)), some (.int (nI (zk x))), none, none, some (.int (nI i)), some (.int (nI j)), none] [] s2 Q := by
          intro m'
          induction m' with
          | zero =>
            intro j s2 hj hA2
            have hj : j = (zr (zel x i)).length := hj
            rw [List.take_of_length_le (l := zr (zel x i)) (by omega), ← hts] at hA2
            refine vX10_shapes_182 (M_partA hst hA2 hr (by omega) (by omega) (by omega) (by omega) (fun q hq => ⟨_, rfl, M_sizeA hst hA2 hq (by omega) ⟨_, rfl, ?_⟩⟩))
            have ez : zn (zel x i) = (zr (zel x i)).length := by rw [zk1 c1]; rfl
            rw [ez]
            refine pk_le _ j (fun _ => ?_) (fun c => by omega) rfl rfl
            rw [nI_1]
            exact nx s2 (by omega) hA2
          | succ m' ihj =>
            intro j s2 hj hA2
            have ez : zn (zel x i) = (zr (zel x i)).length := by rw [zk1 c1]; rfl
            refine vX10_shapes_182 (M_partA hst hA2 hr (by omega) (by omega) (by omega) (by omega) (fun q hq => ⟨_, rfl, M_sizeA hst hA2 hq (by omega) ⟨_, rfl, ?_⟩⟩))
            rw [ez]
            refine pk_le _ j (fun c => by omega) (fun _ => ?_) rfl rfl
            refine M_partA hst hA2 hr (by omega) (by omega) (by omega) (by omega) (fun q' hq' => ⟨_, rfl, hA2.pE hst hq' (by omega) (by omega) (by rw [List.length_append, List.length_map, List.length_map, List.length_take]; omega) (fun s3 q3 => ?_)⟩)
            rw [nI_1]
            refine ihj (j + 1) s3 (by omega) ?_
            have e : zel (zel x i) j = zI ((zr (zel x i)).getD j 0) := by
              conv => lhs; rw [zk1 c1]
              exact getD_map zI _ 0 (zI 0) (by omega)
            rw [e, List.append_assoc] at q3
            rw [take_succ_getD (zr (zel x i)) 0 j (by omega), List.map_append]
            exact q3
        refine main (zr (zel x i)).length 0 s' (by omega) ?_
        rw [List.take_zero, List.map_nil, List.append_nil]
        exact hA
      refine vX10_shapes_143 (M_sizeA hst hA hr (by omega) ⟨_, rfl, pk_le (zn x) i (fun c => by omega) (fun _ => ?_) rfl rfl⟩)
      refine bn_eq (zk x) 3 (fun c3 => ?_) (fun c3 => ?_) rfl rfl
      · exact hrow ((zel_kind (show i < zn x by omega)).2 (by omega))
      · refine M_isIntA hst hA hr c3 hb (by omega) (fun c0 => ⟨_, rfl, fun c => absurd c (by decide), fun _ => ?_⟩) (fun c0 => ⟨_, rfl, fun _ => hrow (by omega), fun c => absurd rfl c⟩)
        refine hA.pE hst hr (by omega) (by omega) (by rw [List.length_map]; omega) (fun s2 q2 => ?_)
        rw [nI_1]
        refine nx s2 (by omega) ?_
        have epp : zpp (zel x i) = [zv (zel x i)] := if_pos c0
        rw [hts, epp]
        rw [zk0 c0] at q2
        exact q2
  -- the first time
  have main : ∀ m i, i + m = zn x → (∀ t ∈ (ze x).take i, zk t < 2) → ExM l E w (d + 4) MX10_shapes 28 [some (.ref w.1), none, some (.int (nI p)), some (.int (nI n)), some (.int (nI (zk x))), none, some (.int (nI (((ze x).take i).map zpp).flatten.length)), some (.int (nI i)), none, none] [] (sI s 108 (nI n)) Q := by
    intro m
    induction m with
    | zero =>
      intro i hi hall
      have hi : i = zn x := hi
      have hl := hlen i (by omega)
      rw [List.take_of_length_le (by omega)] at hall hl ⊢
      have hall' : (ze x).all (fun t => decide (zk t < 2)) = true := List.all_eq_true.mpr fun t ht => decide_eq_true (hall t ht)
      refine vX10_shapes_28 (M_sizeA hst ha hr (by omega) ⟨_, rfl, pk_le (zn x) i (fun _ => pk_le _ 64 (fun c => put hall' c (zn x) 0 _ (by omega) ha) (fun c => ?_) rfl rfl (by omega)) (fun c => by omega) rfl rfl⟩)
      have := heq.2 _ (by rw [if_pos hall'])
      rw [this, if_pos c] at hQ
      exact K_tr hst hC ha (by omega) 2 rfl hQ
    | succ m ih =>
      intro i hi hall
      have hel := hmemi i (by omega)
      have hl := hlen i (by omega)
      have hl2 := hel64 i
      have hts : (((ze x).take (i + 1)).map zpp).flatten.length = (((ze x).take i).map zpp).flatten.length + (zpp (zel x i)).length := by
        rw [take_succ_getD (ze x) (zI 0) i (by omega), List.map_append, List.flatten_append, List.length_append]
        show _ + ([zpp (zel x i)]).flatten.length = _
        rw [List.flatten_singleton]
      have nx : zk (zel x i) < 2 → ExM l E w (d + 4) MX10_shapes 28 [some (.ref w.1), none, some (.int (nI p)), some (.int (nI n)), some (.int (nI (zk x))), none, some (.int (nI ((((ze x).take i).map zpp).flatten.length + (zpp (zel x i)).length))), some (.int (nI i + 1)), none, none] [] (sI s 108 (nI n)) Q := by
        intro c
        rw [nI_1, ← hts]
        refine ih (i + 1) (by omega) (fun t ht => ?_)
        rw [take_succ_getD (ze x) (zI 0) i (by omega)] at ht
        rcases List.mem_append.mp ht with ht | ht
        · exact hall t ht
        · rw [List.mem_singleton.mp ht]; exact c
      -- no INT
      have part : ¬ zk (zel x i) = 0 → EvM l E w (d + 3) MX10_partAt [.ref w.1, .int (nI p), .int (nI i)] (sI s 108 (nI n)) (fun r s4 => ∃ v5 : Int32, r = some (.int v5) ∧ (inB v5 166300 ∧ (((s4.2.2.1 104 v5.toNatClampNeg) ≤ 1 → (EvM l E w (d + 3) MX10_partAt [.ref w.1, .int (nI p), .int (nI i)] s4 (fun r s6 => ∃ v7 : Int32, r = some (.int v7) ∧ (EvM l E w (d + 3) MX10_sizeAt [.ref w.1, .int v7] s6 (fun r s8 => ∃ v9 : Int32, r = some (.int v9) ∧ (∀ y10 : Int32, y10 = (nI (((ze x).take i).map zpp).flatten.length + v9) → ExM l E w (d + 4) MX10_shapes 28 [some (.ref w.1), none, some (.int (nI p)), some (.int (nI n)), some (.int (nI (zk x))), none, some (.int y10), some (.int (nI i + 1)), none, none] [] s8 Q)))))) ∧ (¬ (s4.2.2.1 104 v5.toNatClampNeg) ≤ 1 → (EvM l E w (d + 3) MX10_trouble [.ref w.1, .int 3, .int (s4.1 127)] s4 (fun r s11 => r = none ∧ Q none s11)))))) := by
        intro c0
        refine M_partA hst ha hr (by omega) (by omega) (by omega) c0 (fun q hq => ⟨_, rfl, ?_⟩)
        have hq' := rmT_head hq
        have hzk := zk_le (zel x i)
        refine ⟨inB_n (by omega), ?_⟩
        rw [nI_clamp (by omega), ha.cell (by omega), hq'.2.1]
        refine pk_le (zk (zel x i)) 1 (fun c => ?_) (fun c => ?_) rfl rfl
        · refine M_partA hst ha hr (by omega) (by omega) (by omega) c0 (fun q2 hq2 => ⟨_, rfl, M_sizeA hst ha hq2 (by omega) ⟨_, rfl, fun y10 e10 => ?_⟩⟩)
          have c1 : zk (zel x i) = 1 := by omega
          have ez : zn (zel x i) = (zpp (zel x i)).length := by
            have epp : zpp (zel x i) = zr (zel x i) := if_neg (by omega)
            rw [epp, zk1 c1]; rfl
          rw [ez, nI_add] at e10
          rw [e10]
          exact nx (by omega)
        · have hno : ¬ (ze x).all (fun t => decide (zk t < 2)) = true := by
            intro h
            have := of_decide_eq_true (List.all_eq_true.mp h _ hel)
            omega
          rw [heq.1 (by rw [if_neg hno])] at hQ
          exact K_tr hst hC ha (by omega) 3 rfl hQ
      refine vX10_shapes_28 (M_sizeA hst ha hr (by omega) ⟨_, rfl, pk_le (zn x) i (fun c => by omega) (fun _ => ?_) rfl rfl⟩)
      refine bn_eq (zk x) 3 (fun c3 => ?_) (fun c3 => ?_) rfl rfl
      · have := (zel_kind (show i < zn x by omega)).2 (by omega)
        exact part (by omega)
      · refine M_isIntA hst ha hr c3 hb (by omega) (fun c0 => ⟨_, rfl, fun c => absurd c (by decide), fun _ y ey => ?_⟩) (fun c0 => ⟨_, rfl, fun _ => part c0, fun c => absurd rfl c⟩)
        have epp : zpp (zel x i) = [zv (zel x i)] := if_pos c0
        have nx := nx (by omega)
        rw [epp] at nx
        rw [ey, nI_1 (((ze x).take i).map zpp).flatten.length]
        exact nx
  exact main (zn x) 0 (by omega) (fun t ht => by cases ht)
end MS1
