section MW2
variable {l : Launch} {E : EN} {w : MO} {d : Nat} {s s0 : MS} {Q : Option Value → MS → Prop} {b n md b1 : Nat}
theorem M_wk88 (hst : l.stackTraces = false) {xs : List Th} {p k : Nat} {a W : List Int32} (hr : rmT (s0.2.2.1 104) b true (zR a) p 0) (hb : b ≤ 157600) (hk : k = 13 ∨ k = 14) {key : Int32 → Int32} (hkey : key = if k = 13 then id else fun m => a.getD m.toNatClampNeg 0) (hW : k = 14 → ∀ v ∈ W, ∃ z : Nat, z < a.length ∧ v = nI z) (hn : n + xs.length + W.length ≤ 8800)
    (hQ : ∀ s', MAcc b n s0 b1 (xs ++ (zsort key W).map zI) s' → Q none s') :
    ∀ m i (s : MS), 1 ≤ i → i + m = W.length ∨ (m = 0 ∧ W.length ≤ i ∧ i ≤ W.length + 1) → MAcc b n s0 b1 (xs ++ (zsort key (W.take i) ++ W.drop i).map zI) s → ExM l E w (d + 1) MX10_worked 88 [some (.ref w.1), some (.int (nI k)), some (.int (nI p)), some (.int (nI (n + xs.length))), none, some (.int (nI (n + xs.length + i))), none, none, none] [] s Q := by
  have hal : a.length ≤ b := by have h4 := (rmT_head hr).2.2.2; have : p + 2 + a.length ≤ b := h4; omega
  have hlen : ∀ i, (zsort key (W.take i) ++ W.drop i).length = W.length := fun i => by
    rw [List.length_append, zsort_len, List.length_take, List.length_drop]; omega
  intro m
  induction m with
  | zero =>
    intro i s h1 hi hA
    have hi : W.length ≤ i ∧ i ≤ W.length + 1 := by
      rcases hi with h | h
      · omega
      · exact h.2
    have hsp := hA.sp
    rw [List.length_append, List.length_map, hlen] at hsp
    rw [List.take_of_length_le hi.1, List.drop_of_length_le hi.1, List.append_nil] at hA
    refine vX10_worked_88 ?_
    rw [hsp]
    exact pk_le _ _ (fun _ => hQ s hA) (fun c => by omega) rfl rfl
  | succ m ih =>
    intro i s h1 hi hA
    have hi : i + (m + 1) = W.length := by
      rcases hi with h | h
      · exact h
      · exact absurd h.1 (Nat.succ_ne_zero m)
    have hsp := hA.sp
    rw [List.length_append, List.length_map, hlen] at hsp
    have hdr : W.drop i = W.getD i 0 :: W.drop (i + 1) := by
      rw [getD_lt _ (by omega)]; exact List.drop_eq_getElem_cons (by omega)
    have hzl : (zsort key (W.take i)).length = i := by rw [zsort_len, List.length_take]; omega
    have hat := hA.at (show i < (zsort key (W.take i) ++ W.drop i).length by rw [hlen]; omega)
    have hgi : (zsort key (W.take i) ++ W.drop i).getD i 0 = W.getD i 0 := by
      have := getD_app2 (zsort key (W.take i)) (W.drop i) 0 0
      rw [hzl, Nat.add_zero] at this
      rw [this, hdr]; rfl
    rw [hgi] at hat
    have hmem := getD_mem (0 : Int32) (show i < W.length by omega)
    have hall : k = 14 → ∀ v ∈ zsort key (W.take i) ++ W.drop i, ∃ z : Nat, z < a.length ∧ v = nI z := by
      intro c v hv
      rcases List.mem_append.mp hv with hv | hv
      · exact hW c v (List.mem_of_mem_take (zsort_mem _ hv))
      · exact hW c v (List.mem_of_mem_drop hv)
    have fin : ∀ km : Int32, km = key (W.getD i 0) → ExM l E w (d + 1) MX10_worked 134 [some (.ref w.1), some (.int (nI k)), some (.int (nI p)), some (.int (nI (n + xs.length))), none, some (.int (nI (n + xs.length + i))), some (.int (W.getD i 0)), some (.int km), some (.int (nI (n + xs.length + i)))] [] s Q := by
      intro km ekm
      rw [ekm]
      refine M_wk134 hst hr hb hk hkey i _ s (by rw [hlen]; omega) (by rw [hlen]; omega) hall hA (fun s' hA' => ?_)
      rw [nI_1]
      refine ih (i + 1) s' (by omega) (by omega) ?_
      have e1 : insA key (W.getD i 0) (zsort key (W.take i) ++ W.drop i) i = zsort key (W.take (i + 1)) ++ W.drop (i + 1) := by
        rw [hdr, insA_eq key (W.getD i 0) i _ _ _ hzl, take_succ_getD W 0 i (by omega), zsort_snoc]
      rw [e1] at hA'
      exact hA'
    refine vX10_worked_88 ?_
    rw [hsp, nI_clamp (by omega), hat.2]
    refine pk_le _ _ (fun c => by omega) (fun _ => ⟨inB_n (by omega), fun y ey => ?_⟩) rfl rfl
    rw [ey]
    rcases hk with rfl | rfl
    · refine ⟨fun c => absurd rfl c, fun _ => fin _ ?_⟩
      have hk : key = id := hkey
      rw [hk]; rfl
    · obtain ⟨z, hz1, hz2⟩ := hW rfl _ hmem
      obtain ⟨r1, r2⟩ := hA.rowAt hr hz1
      have e3 : nI p + 2 + W.getD i 0 = nI (p + 2 + z) := by rw [hz2, nI_l2, nI_add]
      refine ⟨fun _ => ?_, fun c => absurd c (by decide)⟩
      rw [e3, nI_clamp (by omega), r2]
      refine ⟨inB_n (by omega), fun y2 ey2 => fin _ ?_⟩
      have hk : key = fun m => a.getD m.toNatClampNeg 0 := hkey
      rw [ey2, hk, hz2]
      show _ = a.getD (nI z).toNatClampNeg 0
      rw [nI_clamp (by omega)]
theorem M_worked (hst : l.stackTraces = false) {xs : List Th} {p k : Nat} {a : List Int32} (ha : MAcc b n s0 b1 xs s) (hr : rmT (s0.2.2.1 104) b true (zR a) p 0) (hb : b ≤ 157600) (hk : k = 12 ∨ k = 13 ∨ k = 14) (ha64 : a.length ≤ 64) (hn : n + xs.length ≤ 8700)
    (hQ : ∀ s', MAcc b n s0 b1 (xs ++ (zwk k a).map zI) s' → Q none s') : EvM l E w (d + 1) MX10_worked [.ref w.1, .int (nI k), .int (nI p)] s Q := by
  refine eX10_worked hst fun y1 e1 => ?_
  rw [ha.sp] at e1
  subst e1
  obtain ⟨W, hW⟩ : ∃ W : List Int32, W = if k = 12 then zscan 0 a else if k = 13 then a else (List.range a.length).map nI := ⟨_, rfl⟩
  have hWl : W.length = a.length := by
    rw [hW]
    split
    · exact zscan_len 0 a
    · split
      · rfl
      · rw [List.length_map, List.length_range]
  have hWi : ∀ i, i < a.length → W.getD i 0 = if k = 12 then (a.take (i + 1)).foldl (· + ·) 0 else if k = 13 then a.getD i 0 else nI i := by
    intro i hi
    rw [hW]
    split
    · exact zscan_at a 0 i hi
    · split
      · rfl
      · rw [getD_map nI _ 0 0 (by rw [List.length_range]; exact hi), getD_lt 0 (by rw [List.length_range]; exact hi), List.getElem_range]
  have main : ∀ m i (s' : MS), i + m = a.length → MAcc b n s0 b1 (xs ++ (W.take i).map zI) s' → ExM l E w (d + 1) MX10_worked 11 [some (.ref w.1), some (.int (nI k)), some (.int (nI p)), some (.int (nI (n + xs.length))), some (.int ((a.take i).foldl (· + ·) 0)), some (.int (nI i)), none, none, none] [] s' Q := by
    intro m
    induction m with
    | zero =>
      intro i s' hi hA
      have hi : i = a.length := hi
      rw [List.take_of_length_le (by omega)] at hA
      refine vX10_worked_11 (M_sizeA hst hA hr (by omega) ⟨_, rfl, pk_le a.length i (fun _ => ?_) (fun c => by omega) rfl rfl⟩)
      by_cases h12 : k = 12
      · subst h12
        refine ⟨fun c => absurd rfl c, fun _ => hQ s' ?_⟩
        have e : zwk 12 a = W := by rw [hW]; rfl
        rw [e]; exact hA
      · refine ⟨fun _ y3 e3 => ?_, fun c => absurd c (by rcases hk with rfl | rfl | rfl <;> first | exact absurd rfl h12 | decide)⟩
        rw [nI_1] at e3
        rw [e3]
        have hk2 : k = 13 ∨ k = 14 := by omega
        obtain ⟨key, hkey⟩ : ∃ key : Int32 → Int32, key = if k = 13 then id else fun m => a.getD m.toNatClampNeg 0 := ⟨_, rfl⟩
        have e : zwk k a = zsort key W := by
          rw [hW, hkey]
          rcases hk2 with rfl | rfl <;> rfl
        rw [e] at hQ
        have hz1 : zsort key (W.take 1) ++ W.drop 1 = W := by
          match W with
          | [] => rfl
          | x :: r => rfl
        refine M_wk88 (W := W) hst hr hb hk2 hkey (fun c v hv => ?_) (by omega) hQ (W.length - 1) 1 s' (Nat.le_refl 1) (by omega) (by rw [hz1]; exact hA)
        subst c
        rw [hW] at hv
        obtain ⟨z, hz, rfl⟩ := List.mem_map.mp hv
        exact ⟨z, List.mem_range.mp hz, rfl⟩
    | succ m ih =>
      intro i s' hi hA
      have hl : (xs ++ (W.take i).map zI).length = xs.length + i := by rw [List.length_append, List.length_map, List.length_take]; omega
      obtain ⟨r1, r2⟩ := hA.rowAt hr (show i < a.length by omega)
      have hWi := hWi i (by omega)
      have hts := take_succ_getD W 0 i (by omega)
      have nx : ∀ s2 : MS, MAcc b n s0 b1 (xs ++ (W.take i).map zI ++ [zI (W.getD i 0)]) s2 → ExM l E w (d + 1) MX10_worked 11 [some (.ref w.1), some (.int (nI k)), some (.int (nI p)), some (.int (nI (n + xs.length))), some (.int ((a.take (i + 1)).foldl (· + ·) 0)), some (.int (nI i + 1)), none, none, none] [] s2 Q := by
        intro s2 q
        rw [nI_1]
        refine ih (i + 1) s2 (by omega) ?_
        rw [hts, List.map_append, ← List.append_assoc]
        exact q
      refine vX10_worked_11 (M_sizeA hst hA hr (by omega) ⟨_, rfl, pk_le a.length i (fun c => by omega) (fun _ => ?_) rfl rfl⟩)
      rw [nI_l2, nI_add, nI_clamp (by omega), r2]
      refine ⟨inB_n (by omega), fun y4 e4 y5 e5 => ?_⟩
      have e5 : y5 = (a.take (i + 1)).foldl (· + ·) 0 := by rw [e5, e4, foldl_take_succ (· + ·) 0 a i (by omega)]
      rw [e5]
      rcases hk with rfl | rfl | rfl
      · refine ⟨fun c => absurd rfl c, fun _ => hA.pI hst (by omega) (fun s2 q => nx s2 ?_)⟩
        rw [hWi]; exact q
      · refine ⟨fun _ => ⟨fun c => absurd rfl c, fun _ => hA.pI hst (by omega) (fun s2 q => nx s2 ?_)⟩, fun c => absurd c (by decide)⟩
        rw [hWi]
        rw [e4] at q; exact q
      · refine ⟨fun _ => ⟨fun _ => hA.pI hst (by omega) (fun s2 q => nx s2 ?_), fun c => absurd c (by decide)⟩, fun c => absurd c (by decide)⟩
        rw [hWi]; exact q
  refine main a.length 0 s (by omega) ?_
  rw [List.take_zero, List.map_nil, List.append_nil]
  exact ha
theorem zwk_len {k : Nat} (a : List Int32) : (zwk k a).length = a.length := by
  unfold zwk
  split
  · exact zscan_len 0 a
  · split
    · exact zsort_len id a
    · rw [zsort_len, List.length_map, List.length_range]
theorem zbi1_12 (x : Th) : zbi1 12 x = if zk x = 1 then .inr (zR (zscan 0 (zr x))) else if zk x = 2 then .inr (zT ((zt x).map (fun r => zscan 0 r))) else .inl 3 := by
  unfold zbi1
  simp only [show ¬ (12 < 3) by decide, show ¬ (12 = 4) by decide, show ¬ (12 = 6) by decide, show ¬ (12 = 7) by decide, show ¬ (12 = 8) by decide, show ¬ (12 < 12) by decide, show (12 < 14) by decide, if_true, if_false]
theorem zbi1_13 (x : Th) : zbi1 13 x = if zk x = 1 then .inr (zR (zsort id (zr x))) else if zk x = 2 then .inr (zT ((zt x).map (fun r => zsort id r))) else .inl 3 := by
  unfold zbi1
  simp only [show ¬ (13 < 3) by decide, show ¬ (13 = 4) by decide, show ¬ (13 = 6) by decide, show ¬ (13 = 7) by decide, show ¬ (13 = 8) by decide, show ¬ (13 < 12) by decide, show (13 < 14) by decide, show ¬ (13 = 12) by decide, if_true, if_false]
theorem zbi1_14 (x : Th) : zbi1 14 x = if zk x = 1 then .inr (zR (zsort (fun m => (zr x).getD m.toNatClampNeg 0) ((List.range (zr x).length).map nI))) else .inl 3 := by
  unfold zbi1
  simp only [show ¬ (14 < 3) by decide, show ¬ (14 = 4) by decide, show ¬ (14 = 6) by decide, show ¬ (14 = 7) by decide, show ¬ (14 = 8) by decide, show ¬ (14 < 12) by decide, show ¬ (14 < 14) by decide, if_true, if_false]
theorem zbi1_wk {k : Nat} {x : Th} (hk : k = 12 ∨ k = 13 ∨ k = 14) (hx : zk x = 1) : zbi1 k x = .inr (zR (zwk k (zr x))) := by
  rcases hk with rfl | rfl | rfl
  · rw [zbi1_12, if_pos hx]; rfl
  · rw [zbi1_13, if_pos hx]; rfl
  · rw [zbi1_14, if_pos hx]; rfl
theorem zbi1_wt {k : Nat} {x : Th} (hk : k = 12 ∨ k = 13) (hx : zk x = 2) : zbi1 k x = .inr (zT ((zt x).map (zwk k))) := by
  rcases hk with rfl | rfl
  · rw [zbi1_12, if_neg (by omega), if_pos hx]; rfl
  · rw [zbi1_13, if_neg (by omega), if_pos hx]; rfl
/-- scan, sort, grade -/
theorem M_eachRow (hst : l.stackTraces = false) (hC : MCtx b n md s0) {x : Th} {p k : Nat} (ha : MAcc b n s0 b [] s) (hr : rmT (s0.2.2.1 104) b true x p 0) (wx : ZW x) (hk : k = 12 ∨ k = 13 ∨ k = 14) (hx : zk x = 1 ∨ (zk x = 2 ∧ k ≠ 14)) (hQ : ∀ s', mop b n md (zbi1 k x) s0 s' → Q none s') : EvM l E w (d + 4) MX10_eachRow [.ref w.1, .int (nI k), .int (nI p), .int (nI n), .int (nI (zk x))] s Q := by
  have hb := hC.1
  have hn := hC.2.1
  rcases hx with hx | ⟨hx, hk14⟩
  · have ex := zk1 hx
    have wa : (zr x).length ≤ 64 := by rw [ex] at wx; exact wx
    rw [ex] at hr
    have hz : zbi1 k x = .inr (zR (zwk k (zr x))) := zbi1_wk hk hx
    rw [hz] at hQ
    rw [hx]
    refine eX10_eachRow hst ⟨fun c => absurd rfl c, fun _ => M_worked hst ha hr hb hk wa (by show n + 0 ≤ 8700; omega) (fun s1 q1 => ⟨rfl, K_row hst hC q1 (fun s2 q2 => hQ s2 ?_)⟩)⟩
    rw [zmk_ok (show ZW (zR (zwk k (zr x))) by show (zwk k (zr x)).length ≤ 64; rw [zwk_len]; exact wa)] at q2
    exact q2
  · have ex := zk2 hx
    obtain ⟨g1, g2, g3⟩ : (zt x).length ≤ 20 ∧ zis (zt x) ≤ 200 ∧ ∀ r ∈ zt x, r.length ≤ 64 := by rw [ex] at wx; exact wx
    rw [ex] at hr
    have hz : zbi1 k x = .inr (zT ((zt x).map (zwk k))) := zbi1_wt (by omega) hx
    rw [hz] at hQ
    rw [hx]
    generalize zt x = a at hr g1 g2 g3 hQ
    refine eX10_eachRow hst ⟨fun _ => ?_, fun c => absurd c (by decide)⟩
    have hln : ∀ i, zis ((a.take i).map (zwk k)) = zis (a.take i) := by
      intro i
      unfold zis
      rw [List.map_map]
      congr 1
      exact List.map_congr_left (fun r _ => zwk_len r)
    have hzt : ∀ i, zis (a.take i) ≤ 200 := fun i => Nat.le_trans (zis_take_le a i) g2
    have main : ∀ m i (s' : MS), i + m = a.length → MAcc b n s0 (b + 2 * i + zis (a.take i)) (((a.take i).map (zwk k)).map zR) s' → ExM l E w (d + 4) MX10_eachRow 22 [some (.ref w.1), some (.int (nI k)), some (.int (nI p)), some (.int (nI n)), none, some (.int (nI i)), none] [] s' Q := by
      intro m
      induction m with
      | zero =>
        intro i s' hi hA
        have hi : i = a.length := hi
        have hz' := hzt i
        have hl' := hln i
        rw [List.take_of_length_le (by omega)] at hA hz' hl'
        have hw' : ZW (zT (a.map (zwk k))) := by
          refine ⟨by rw [List.length_map]; exact g1, by omega, fun r hr' => ?_⟩
          obtain ⟨r0, q1, rfl⟩ := List.mem_map.mp hr'
          rw [zwk_len]; exact g3 r0 q1
        refine vX10_eachRow_22 (M_sizeA hst hA hr (by omega) ⟨_, rfl, pk_le a.length i (fun _ => ?_) (fun c => by omega) rfl rfl⟩)
        refine K_tab hst hC hA hw'.2.2 (by rw [List.length_map]; omega) (by omega) (fun s'' q => hQ s'' ?_)
        rw [zmk_ok hw'] at q
        exact q
      | succ m ih =>
        intro i s' hi hA
        have hz' := hzt i
        have hts := take_succ_getD a [] i (by omega)
        have hza : zis (a.take (i + 1)) = zis (a.take i) + (a.getD i []).length := by rw [hts, zis_app, zis_cons, zis_nil]; rfl
        have hr64 := g3 _ (getD_mem [] (show i < a.length by omega))
        have hl : (((a.take i).map (zwk k)).map zR).length = i := by rw [List.length_map, List.length_map, List.length_take]; omega
        refine vX10_eachRow_22 (M_sizeA hst hA hr (by omega) ⟨_, rfl, pk_le a.length i (fun c => by omega) (fun _ y4 e4 => ?_) rfl rfl⟩)
        rw [hA.sp] at e4
        subst e4
        have hel : zel (zT a) i = zR (a.getD i []) := getD_map zR a [] (zI 0) (by omega)
        refine M_partA hst hA hr (by omega) (show i < a.length by omega) (by show 1 < 2; decide) (by show ¬ zk (zel (zT a) i) = 0; rw [hel]; show ¬ 1 = 0; decide) (fun q hq => ⟨_, rfl, ?_⟩)
        have hq : rmT (s0.2.2.1 104) b true (zel (zT a) i) q 0 := hq
        rw [hel] at hq
        refine M_worked hst hA hq hb hk hr64 (by omega) (fun s1 q1 => ⟨rfl, ?_⟩)
        refine q1.rowOf hst (by rw [zwk_len]; omega) (by omega) (fun s3 q3 => ⟨rfl, ?_⟩)
        rw [nI_1]
        refine ih (i + 1) s3 (by omega) ?_
        rw [zwk_len] at q3
        rw [hza, hts, List.map_append, List.map_append]
        have e : b + 2 * i + zis (a.take i) + 2 + (a.getD i []).length = b + 2 * (i + 1) + (zis (a.take i) + (a.getD i []).length) := by omega
        rw [e] at q3
        exact q3
    exact main a.length 0 s (by omega) ha
end MW2
