theorem b_sh {a5 a6 : Int32} {T1 T2 C : Prop} (c : Nat) (h2 : 20 < c → T2) (h1 : c ≤ 20 → a6 < 0 → T1) (h0 : c ≤ 20 → ¬ a6 < 0 → C) (e5 : a5 = nI c) (hc : c < 2 ^ 31 := by omega) : ((20 < a5 → ((a5 ≤ 20 → T1) ∧ (¬ a5 ≤ 20 → T2))) ∧ (¬ 20 < a5 → ((0 ≤ a6 → C) ∧ (¬ 0 ≤ a6 → ((a5 ≤ 20 → T1) ∧ (¬ a5 ≤ 20 → T2)))))) := by
  refine pk_lt 20 c (fun k => pk_le c 20 (fun k2 => by omega) (fun _ => h2 k) e5 rfl) (fun k => ⟨fun k2 => h0 k (Int32.not_lt.mpr k2), fun k2 => pk_le c 20 (fun _ => h1 k (Int32.not_le.mp k2)) (fun k3 => by omega) e5 rfl⟩) rfl e5
section MS3
variable {l : Launch} {E : EN} {w : MO} {d : Nat} {s s0 : MS} {Q : Option Value → MS → Prop} {b n md b1 : Nat}
theorem M_turn (hst : l.stackTraces = false) {x : Th} {v : Int32} (hi : MOk b n md [x] s) (hv : v = s.2.2.1 107 n) (hx : zk x = 2) (hQ : ∀ s', mop b n md (zbi1 17 x) s s' → Q none s') : EvM l E w (d + 4) MX10_shapes [.ref w.1, .int 17, .int v, .int (nI n)] s Q := by
  have ha := hi.acc
  have hC := hi.ctx
  have hn := hC.2.1
  have hb := hC.1
  obtain ⟨m4, hxv, wx⟩ := hi.one
  rw [← hv] at hxv
  obtain ⟨-, p, rfl, hr⟩ := hxv.thing (by omega)
  have hh := rmT_head hr
  have ex := zk2 hx
  rw [zbi1_17, if_neg (fun c => c hx)] at hQ
  obtain ⟨g1, g2, g3⟩ : (zt x).length ≤ 20 ∧ zis (zt x) ≤ 200 ∧ ∀ r ∈ zt x, r.length ≤ 64 := by rw [ex] at wx; exact wx
  have hrow : ∀ i, zrowi x i = (zt x).filterMap (fun r => r[i]?) := fun i => by unfold zrowi; rw [if_pos hx]
  have ez : zn x = (zt x).length := by rw [ex]; rfl
  have hmx : ∀ i, zmax (((zt x).take i).map List.length) ≤ 64 := fun i => zmax_le (fun y hy => by
    obtain ⟨r, hr', rfl⟩ := List.mem_map.mp hy
    exact g3 r (List.mem_of_mem_take hr'))
  refine eX10_shapes hst ⟨inB_n (by omega), fun y1 e1 => ⟨fun _ => ⟨fun c => absurd rfl c, fun _ => ?_⟩, fun c => absurd c (by decide)⟩⟩
  rw [nI_clamp (by omega), hh.2.1] at e1
  subst e1
  have main : ∀ m i, i + m = (zt x).length → ExM l E w (d + 4) MX10_shapes 242 [some (.ref w.1), none, some (.int (nI p)), some (.int (nI n)), some (.int (nI (zk x))), some (.int (nI (zmax (((zt x).take i).map List.length)))), some (.int 0), some (.int (nI i)), none, none] [] (sI s 108 (nI n)) Q := by
    intro m
    induction m with
    | zero =>
      intro i hi
      have hi : i = (zt x).length := hi
      have h6 := hmx i
      rw [List.take_of_length_le (by omega)] at h6 ⊢
      refine vX10_shapes_242 (M_sizeA hst ha hr (by omega) ⟨_, rfl, pk_le (zn x) i (fun _ => b_sh _ (fun c => ?_) (fun _ c => absurd c (by decide)) (fun c _ => ?_) rfl) (fun c => by omega) rfl rfl⟩)
      · rw [if_pos c] at hQ
        exact K_tr hst hC ha (by omega) 2 rfl hQ
      · rw [if_neg (by omega)] at hQ
        have e : (List.range (zmax ((zt x).map List.length))).map (zrowi x) = zturn (zt x) := List.map_congr_left (fun i _ => hrow i)
        have hw : ZW (zT (zturn (zt x))) := by
          refine ⟨by unfold zturn; rw [List.length_map, List.length_range]; exact c, Nat.le_trans (zis_turn _ _) g2, fun r hr' => ?_⟩
          obtain ⟨i, _, rfl⟩ := List.mem_map.mp hr'
          have := List.length_filterMap_le (fun r : List Int32 => r[i]?) (zt x)
          omega
        exact M_sh393 hst hC hr wx (Or.inr hx) c (by rw [e]; exact hw) (fun s' q => hQ s' (by rw [e] at q; exact q)) (zmax ((zt x).map List.length)) 0 _ (Nat.zero_add _) ha
    | succ m ih =>
      intro i hi
      have h6 := hmx i
      have hel : zel x i = zR ((zt x).getD i []) := by
        conv => lhs; rw [ex]
        exact getD_map zR _ [] (zI 0) (by omega)
      have h64 := g3 _ (getD_mem [] (show i < (zt x).length by omega))
      refine vX10_shapes_242 (M_sizeA hst ha hr (by omega) ⟨_, rfl, pk_le (zn x) i (fun c => by omega) (fun _ => ?_) rfl rfl⟩)
      refine M_partA hst ha hr (by omega) (by omega) (by omega) (by rw [hel]; show ¬ 1 = 0; decide) (fun q hq => ⟨_, rfl, ?_⟩)
      rw [hel] at hq
      refine M_sizeA hst ha hq (by omega) ⟨_, rfl, M_most hst (by omega) (by show ((zt x).getD i []).length < 2 ^ 31; omega) ⟨_, rfl, ?_⟩⟩
      have nx := ih (i + 1) (by omega)
      rw [take_succ_getD (zt x) [] i (by omega), List.map_append, List.map_cons, List.map_nil, zmax_snoc] at nx
      rw [nI_1]
      exact nx
  exact main (zt x).length 0 (by omega)
theorem M_group (hst : l.stackTraces = false) {x : Th} {v : Int32} (hi : MOk b n md [x] s) (hv : v = s.2.2.1 107 n) (hx : zk x = 1) (hQ : ∀ s', mop b n md (zbi1 18 x) s s' → Q none s') : EvM l E w (d + 4) MX10_shapes [.ref w.1, .int 18, .int v, .int (nI n)] s Q := by
  have ha := hi.acc
  have hC := hi.ctx
  have hn := hC.2.1
  have hb := hC.1
  obtain ⟨m4, hxv, wx⟩ := hi.one
  rw [← hv] at hxv
  obtain ⟨-, p, rfl, hr⟩ := hxv.thing (by omega)
  have hh := rmT_head hr
  have ex := zk1 hx
  rw [zbi1_18, if_neg (fun c => c hx)] at hQ
  have g1 : (zr x).length ≤ 64 := by rw [ex] at wx; exact wx
  have hrow : ∀ i, zrowi x i = ((List.range (zr x).length).filter (fun j => (zr x).getD j 0 == nI i)).map nI := fun i => by unfold zrowi; rw [if_neg (by omega)]
  have ez : zn x = (zr x).length := by rw [ex]; rfl
  refine eX10_shapes hst ⟨inB_n (by omega), fun y1 e1 => ⟨fun _ => ⟨fun _ => ?_, fun c => absurd c (by decide)⟩, fun c => absurd c (by decide)⟩⟩
  rw [nI_clamp (by omega), hh.2.1] at e1
  subst e1
  have hr2 := hr
  rw [ex] at hr2
  have main : ∀ m i (c : Nat) (a6 : Int32), i + m = (zr x).length → ((c = zmost ((zr x).take i) ∧ c ≤ 20) ∨ (c = 21 ∧ 20 < zmost ((zr x).take i))) → a6 ≤ 0 → (a6 < 0 ↔ ∃ v ∈ (zr x).take i, v < 0) → ExM l E w (d + 4) MX10_shapes 282 [some (.ref w.1), none, some (.int (nI p)), some (.int (nI n)), some (.int (nI (zk x))), some (.int (nI c)), some (.int a6), some (.int (nI i)), none, none] [] (sI s 108 (nI n)) Q := by
    intro m
    induction m with
    | zero =>
      intro i c a6 hi hc h60 h6
      have hi : i = (zr x).length := hi
      rw [List.take_of_length_le (by omega)] at hc h6
      refine vX10_shapes_282 (M_sizeA hst ha hr (by omega) ⟨_, rfl, pk_le (zn x) i (fun _ => b_sh c (fun k => ?_) (fun k k2 => ?_) (fun k k2 => ?_) rfl) (fun c => by omega) rfl rfl⟩)
      · rw [if_pos (by omega)] at hQ
        exact K_tr hst hC ha (by omega) 2 rfl hQ
      · rw [if_neg (by omega), if_pos (h6.mp k2)] at hQ
        exact K_tr hst hC ha (by omega) 1 rfl hQ
      · rw [if_neg (by omega), if_neg (fun z => k2 (h6.mpr z))] at hQ
        have ec : c = zmost (zr x) := by omega
        subst ec
        have e : (List.range (zmost (zr x))).map (zrowi x) = zgroup (zr x) := List.map_congr_left (fun i _ => hrow i)
        have hw : ZW (zT (zgroup (zr x))) := by
          refine ⟨by unfold zgroup; rw [List.length_map, List.length_range]; exact k, Nat.le_trans (zis_group (zr x) _ (by omega) _) (by omega), fun r hr' => ?_⟩
          obtain ⟨i, _, rfl⟩ := List.mem_map.mp hr'
          rw [List.length_map]
          have := List.length_filter_le (fun j => (zr x).getD j 0 == nI i) (List.range (zr x).length)
          rw [List.length_range] at this
          omega
        exact M_sh393 hst hC hr wx (Or.inl hx) k (by rw [e]; exact hw) (fun s' q => hQ s' (by rw [e] at q; exact q)) (zmost (zr x)) 0 _ (Nat.zero_add _) ha
    | succ m ih =>
      intro i c a6 hi hc h60 h6
      have hts := take_succ_getD (zr x) 0 i (by omega)
      obtain ⟨r1, r2⟩ := ha.rowAt hr2 (show i < (zr x).length by omega)
      refine vX10_shapes_282 (M_sizeA hst ha hr (by omega) ⟨_, rfl, pk_le (zn x) i (fun c => by omega) (fun _ => ?_) rfl rfl⟩)
      rw [nI_l2, nI_add, nI_clamp (by omega), r2]
      refine ⟨inB_n (by omega), fun z ez' => ?_⟩
      rw [← ez'] at hts
      have mn : ∀ c' : Nat, ((c' = zmost ((zr x).take (i + 1)) ∧ c' ≤ 20) ∨ (c' = 21 ∧ 20 < zmost ((zr x).take (i + 1)))) → ((a6 ≤ z → ExM l E w (d + 4) MX10_shapes 282 [some (.ref w.1), none, some (.int (nI p)), some (.int (nI n)), some (.int (nI (zk x))), some (.int (nI c')), some (.int a6), some (.int (nI i + 1)), none, none] [] (sI s 108 (nI n)) Q) ∧ (¬ a6 ≤ z → ExM l E w (d + 4) MX10_shapes 282 [some (.ref w.1), none, some (.int (nI p)), some (.int (nI n)), some (.int (nI (zk x))), some (.int (nI c')), some (.int z), some (.int (nI i + 1)), none, none] [] (sI s 108 (nI n)) Q)) := by
        intro c' hc'
        have hex : (∃ v ∈ (zr x).take (i + 1), v < 0) ↔ (a6 < 0 ∨ z < 0) := by
          rw [hts, h6]
          constructor
          · rintro ⟨v, hv, c⟩
            rcases List.mem_append.mp hv with hv | hv
            · exact Or.inl ⟨v, hv, c⟩
            · rw [List.mem_singleton.mp hv] at c; exact Or.inr c
          · rintro (⟨v, hv, c⟩ | c)
            · exact ⟨v, List.mem_append_left _ hv, c⟩
            · exact ⟨z, List.mem_append_right _ (List.mem_singleton.mpr rfl), c⟩
        rw [Int32.le_iff_toInt_le] at h60
        have h60 : a6.toInt ≤ 0 := h60
        rw [nI_1]
        refine ⟨fun c => ih (i + 1) c' a6 (by omega) hc' (Int32.le_iff_toInt_le.mpr h60) ?_, fun c => ih (i + 1) c' z (by omega) hc' ?_ ?_⟩
        · rw [hex]
          rw [Int32.le_iff_toInt_le] at c
          rw [i32_neg, i32_neg]; omega
        · rw [Int32.le_iff_toInt_le] at c
          exact Int32.le_iff_toInt_le.mpr (show z.toInt ≤ 0 by omega)
        · rw [hex]
          rw [Int32.le_iff_toInt_le] at c
          rw [i32_neg, i32_neg]; omega
      have hms : zmost ((zr x).take (i + 1)) = max (zmost ((zr x).take i)) (if z < 0 then 0 else z.toNatClampNeg + 1) := by rw [hts, zmost_snoc]
      refine ⟨fun c19 => ⟨fun cz => mn c ?_, fun cz => ?_⟩, fun c19 => mn 21 ?_⟩
      · rw [if_pos cz] at hms
        omega
      · rw [if_neg cz] at hms
        obtain ⟨z1, z2⟩ := i32_nat cz
        have z19 := (i32_le (n := 19) (by omega)).mp c19
        have e : z + 1 = nI (z.toNatClampNeg + 1) := by
          conv => lhs; rw [z2]
          exact nI_1 _
        rw [e]
        exact M_most hst (by omega) (by omega) ⟨_, rfl, mn _ (by omega)⟩
      · have z19 := mt (i32_le (n := 19) (by omega)).mpr c19
        have cz : ¬ z < 0 := fun q => by rw [i32_neg] at q; omega
        have := (i32_nat cz).1
        rw [if_neg cz] at hms
        omega
  exact main (zr x).length 0 0 0 (by omega) (Or.inl ⟨rfl, by omega⟩) (by decide) ⟨fun z => absurd z (by decide), fun ⟨v, hv, _⟩ => by cases hv⟩
end MS3
