theorem zfl1 (g : Nat → Bool) (N : Nat) : ([N].filter g) = if g N = true then [N] else [] := by
  by_cases c : g N = true
  · rw [if_pos c, List.filter_cons_of_pos c]; rfl
  · rw [if_neg c, List.filter_cons_of_neg c]; rfl
theorem sum_range_lt (L : Nat) : ∀ W, ((List.range W).map (fun i => if i < L then 1 else 0)).sum = min W L
  | 0 => by simp
  | W + 1 => by
    rw [List.range_succ, List.map_append, List.sum_append, sum_range_lt L W]
    show min W L + ((if W < L then 1 else 0) + 0) = _
    split <;> omega
theorem sum_map_add {α : Type} (g h : α → Nat) : ∀ l : List α, (l.map (fun x => g x + h x)).sum = (l.map g).sum + (l.map h).sum
  | [] => rfl
  | x :: r => by
    rw [List.map_cons, List.map_cons, List.map_cons, List.sum_cons, List.sum_cons, List.sum_cons, sum_map_add g h r]; omega
theorem zis_turn (W : Nat) : ∀ a : List (List Int32), zis ((List.range W).map (fun i => a.filterMap (fun r => r[i]?))) ≤ zis a
  | [] => by
    unfold zis
    rw [List.map_map]
    have : ∀ l : List Nat, (l.map (List.length ∘ fun i => ([] : List (List Int32)).filterMap (fun r => r[i]?))).sum = 0 := by
      intro l
      induction l with
      | nil => rfl
      | cons x r ih => rw [List.map_cons, List.sum_cons, ih]; rfl
    rw [this]; exact Nat.zero_le _
  | r :: q => by
    have ih := zis_turn W q
    have e : zis ((List.range W).map (fun i => (r :: q).filterMap (fun r => r[i]?))) = ((List.range W).map (fun i => if i < r.length then 1 else 0)).sum + zis ((List.range W).map (fun i => q.filterMap (fun r => r[i]?))) := by
      unfold zis
      rw [List.map_map, List.map_map, ← sum_map_add]
      congr 1
      refine List.map_congr_left (fun i _ => ?_)
      show ((r :: q).filterMap (fun r => r[i]?)).length = (if i < r.length then 1 else 0) + (q.filterMap (fun r => r[i]?)).length
      rw [List.filterMap_cons]
      by_cases c : i < r.length
      · rw [List.getElem?_eq_getElem c, if_pos c]
        show _ + 1 = _; omega
      · rw [List.getElem?_eq_none (by omega), if_neg c]
        exact (Nat.zero_add _).symm
    rw [e, sum_range_lt, zis_cons]
    omega
theorem sum_one (x : Int32) : ∀ W, W < 2 ^ 31 → (∀ i, i < W → x ≠ nI i) → ((List.range W).map (fun i => if (x == nI i) = true then 1 else 0)).sum = 0
  | 0, _, _ => rfl
  | W + 1, h, hx => by
    rw [List.range_succ, List.map_append, List.sum_append, sum_one x W (by omega) (fun i hi => hx i (by omega))]
    show 0 + ((if (x == nI W) = true then 1 else 0) + 0) = 0
    rw [if_neg (by simpa using hx W (by omega))]; rfl
theorem sum_one_le (x : Int32) : ∀ W, W < 2 ^ 31 → ((List.range W).map (fun i => if (x == nI i) = true then 1 else 0)).sum ≤ 1
  | 0, _ => Nat.zero_le _
  | W + 1, h => by
    rw [List.range_succ, List.map_append, List.sum_append]
    show _ + ((if (x == nI W) = true then 1 else 0) + 0) ≤ 1
    by_cases c : x = nI W
    · rw [sum_one x W (by omega) (fun i hi e => by rw [c, nI_eq (by omega) (by omega)] at e; omega), if_pos (by simpa using c)]
      decide
    · rw [if_neg (by simpa using c)]
      have := sum_one_le x W (by omega)
      omega
theorem zis_group (a : List Int32) (W : Nat) (hW : W < 2 ^ 31) : ∀ N, zis ((List.range W).map (fun i => ((List.range N).filter (fun j => a.getD j 0 == nI i)).map nI)) ≤ N
  | 0 => by
    unfold zis
    rw [List.map_map]
    have : ∀ l : List Nat, (l.map (List.length ∘ fun i => ((List.range 0).filter (fun j => a.getD j 0 == nI i)).map nI)).sum = 0 := by
      intro l
      induction l with
      | nil => rfl
      | cons x r ih => rw [List.map_cons, List.sum_cons, ih]; rfl
    rw [this]; exact Nat.le_refl 0
  | N + 1 => by
    have ih := zis_group a W hW N
    have e : zis ((List.range W).map (fun i => ((List.range (N + 1)).filter (fun j => a.getD j 0 == nI i)).map nI)) = zis ((List.range W).map (fun i => ((List.range N).filter (fun j => a.getD j 0 == nI i)).map nI)) + ((List.range W).map (fun i => if (a.getD N 0 == nI i) = true then 1 else 0)).sum := by
      unfold zis
      rw [List.map_map, List.map_map, ← sum_map_add]
      congr 1
      refine List.map_congr_left (fun i _ => ?_)
      show (((List.range (N + 1)).filter (fun j => a.getD j 0 == nI i)).map nI).length = (((List.range N).filter (fun j => a.getD j 0 == nI i)).map nI).length + (if (a.getD N 0 == nI i) = true then 1 else 0)
      rw [List.length_map, List.length_map, List.range_succ, List.filter_append, List.length_append]
      congr 1
      by_cases c : (a.getD N 0 == nI i) = true
      · rw [zfl1, if_pos c, if_pos c]; rfl
      · rw [zfl1, if_neg c, if_neg c]; rfl
    have := sum_one_le (a.getD N 0) W hW
    omega
theorem zmost_snoc (l : List Int32) (v : Int32) : zmost (l ++ [v]) = max (zmost l) (if v < 0 then 0 else v.toNatClampNeg + 1) := by
  unfold zmost
  rw [List.map_append, List.map_cons, List.map_nil, zmax_snoc]
theorem zfm1 (r : List Int32) (i : Nat) : [r].filterMap (fun r => r[i]?) = if i < r.length then [r.getD i 0] else [] := by
  by_cases c : i < r.length
  · rw [if_pos c, getD_lt 0 c, List.filterMap_cons, List.getElem?_eq_getElem c]; rfl
  · rw [if_neg c, List.filterMap_cons, List.getElem?_eq_none (by omega)]; rfl
section MS2
variable {l : Launch} {E : EN} {w : MO} {d : Nat} {s s0 : MS} {Q : Option Value → MS → Prop} {b n md b1 : Nat}
theorem M_most (hst : l.stackTraces = false) {a c : Nat} (ha : a < 2 ^ 31) (hc : c < 2 ^ 31) (hQ : Q (some (.int (nI (max a c)))) s) : EvM l E w d MX10_most [.int (nI a), .int (nI c)] s Q := by
  refine eX10_most hst (pk_le a c (fun h => ?_) (fun h => ?_) rfl rfl ha hc)
  · rw [Nat.max_eq_right h] at hQ; exact hQ
  · rw [Nat.max_eq_left (by omega)] at hQ; exact hQ
/-- row i of what is turned or grouped -/
def zrowi (x : Th) (i : Nat) : List Int32 := if zk x = 2 then (zt x).filterMap (fun r => r[i]?) else ((List.range (zr x).length).filter (fun j => (zr x).getD j 0 == nI i)).map nI
/-- all rows, one behind the other -/
theorem M_sh393 (hst : l.stackTraces = false) (hC : MCtx b n md s0) {x : Th} {p W : Nat} (hr : rmT (s0.2.2.1 104) b true x p 0) (wx : ZW x) (hx : zk x = 1 ∨ zk x = 2) (hW : W ≤ 20) (hw : ZW (zT ((List.range W).map (zrowi x)))) (hQ : ∀ s', mop b n md (.inr (zT ((List.range W).map (zrowi x)))) s0 s' → Q none s') :
    ∀ m i (s : MS), i + m = W → MAcc b n s0 (b + 2 * i + zis ((List.range i).map (zrowi x))) (((List.range i).map (zrowi x)).map zR) s → ExM l E w (d + 4) MX10_shapes 393 [some (.ref w.1), none, some (.int (nI p)), some (.int (nI n)), some (.int (nI (zk x))), some (.int (nI W)), none, some (.int (nI i)), none, none] [] s Q := by
  have hb := hC.1
  have hn := hC.2.1
  have h64 := zw_zn wx
  have hle : ∀ i, i ≤ W → zis ((List.range i).map (zrowi x)) ≤ 200 := by
    intro i hi
    have h2 : zis ((List.range W).map (zrowi x)) ≤ 200 := hw.2.1
    have e : ((List.range W).map (zrowi x)).take i = (List.range i).map (zrowi x) := by rw [← List.map_take, List.take_range, Nat.min_eq_left hi]
    have := zis_take_le ((List.range W).map (zrowi x)) i
    rw [e] at this
    omega
  intro m
  induction m with
  | zero =>
    intro i s hi hA
    have hi : i = W := hi
    subst hi
    have := hle i (Nat.le_refl _)
    refine vX10_shapes_393 (pk_le i i (fun _ => K_tab hst hC hA hw.2.2 (by rw [List.length_map, List.length_range]; omega) (by omega) (fun s' q => hQ s' ?_)) (fun c => by omega) rfl rfl)
    rw [zmk_ok hw] at q
    exact q
  | succ m ih =>
    intro i s hi hA
    have h1 := hle i (by omega)
    have h2 := hle (i + 1) (by omega)
    have hza : zis ((List.range (i + 1)).map (zrowi x)) = zis ((List.range i).map (zrowi x)) + (zrowi x i).length := by
      rw [List.range_succ, List.map_append, zis_app]
      show _ + zis [zrowi x i] = _
      rw [zis_cons, zis_nil]; rfl
    have hl : (((List.range i).map (zrowi x)).map zR).length = i := by rw [List.length_map, List.length_map, List.length_range]
    have hr6 : (zrowi x i).length ≤ 64 := hw.2.2 _ (List.mem_map.mpr ⟨i, List.mem_range.mpr (by omega), rfl⟩)
    refine vX10_shapes_393 (pk_le W i (fun c => by omega) (fun _ y2 e2 => ?_) rfl rfl)
    rw [hA.sp] at e2
    subst e2
    have nx : ∀ s3, MAcc b n s0 (b + 2 * i + zis ((List.range i).map (zrowi x)) + 2 + (zrowi x i).length) (((List.range i).map (zrowi x)).map zR ++ [zR (zrowi x i)]) s3 → ExM l E w (d + 4) MX10_shapes 393 [some (.ref w.1), none, some (.int (nI p)), some (.int (nI n)), some (.int (nI (zk x))), some (.int (nI W)), none, some (.int (nI i + 1)), none, none] [] s3 Q := by
      intro s3 q3
      rw [nI_1]
      refine ih (i + 1) s3 (by omega) ?_
      have e : b + 2 * i + zis ((List.range i).map (zrowi x)) + 2 + (zrowi x i).length = b + 2 * (i + 1) + zis ((List.range (i + 1)).map (zrowi x)) := by omega
      rw [e] at q3
      rw [show (List.range (i + 1)).map (zrowi x) = (List.range i).map (zrowi x) ++ [zrowi x i] by rw [List.range_succ, List.map_append]; rfl, List.map_append]
      rw [show (List.range (i + 1)).map (zrowi x) = (List.range i).map (zrowi x) ++ [zrowi x i] by rw [List.range_succ, List.map_append]; rfl] at q3
      exact q3
    have fin : ∀ (s' : MS) (L : List Int32), L = zrowi x i → MAcc b n s0 (b + 2 * i + zis ((List.range i).map (zrowi x))) (((List.range i).map (zrowi x)).map zR ++ L.map zI) s' → EvM l E w (d + 3) MX10_rowOf [.ref w.1, .int (nI (n + (((List.range i).map (zrowi x)).map zR).length))] s' (fun r s3 => r = none ∧ ExM l E w (d + 4) MX10_shapes 393 [some (.ref w.1), none, some (.int (nI p)), some (.int (nI n)), some (.int (nI (zk x))), some (.int (nI W)), none, some (.int (nI i + 1)), none, none] [] s3 Q) := by
      intro s' L eL hA'
      subst eL
      exact hA'.rowOf hst (by omega) (by omega) (fun s3 q3 => ⟨rfl, nx s3 q3⟩)
    rcases hx with hx | hx
    · -- group
      have ex := zk1 hx
      have eR : zrowi x i = ((List.range (zr x).length).filter (fun j => (zr x).getD j 0 == nI i)).map nI := by unfold zrowi; rw [if_neg (by omega)]
      rw [ex] at hr wx
      have ez : zn x = (zr x).length := by rw [ex]; rfl
      have ek : nI (zk x) = 1 := by rw [hx]; rfl
      rw [ek] at fin ⊢
      generalize zr x = a at hr wx eR ez
      have main : ∀ m' j (s' : MS), j + m' = a.length → MAcc b n s0 (b + 2 * i + zis ((List.range i).map (zrowi x))) (((List.range i).map (zrowi x)).map zR ++ (((List.range j).filter (fun j => a.getD j 0 == nI i)).map nI).map zI) s' → ExM l E w (d + 4) MX10_shapes 409 [some (.ref w.1), none, some (.int (nI p)), some (.int (nI n)), some (.int 1), some (.int (nI W)), none, some (.int (nI i)), some (.int (nI (n + (((List.range i).map (zrowi x)).map zR).length))), some (.int (nI j))] [] s' Q := by
        intro m'
        induction m' with
        | zero =>
          intro j s' hj hA'
          have hj : j = a.length := hj
          subst hj
          exact vX10_shapes_409 (M_sizeA hst hA' hr (by omega) ⟨_, rfl, pk_le a.length a.length (fun _ => fin s' _ eR.symm hA') (fun c => by omega) rfl rfl⟩)
        | succ m' ihj =>
          intro j s' hj hA'
          obtain ⟨r1, r2⟩ := hA'.rowAt hr (show j < a.length by omega)
          have hln : (((List.range j).filter (fun j => a.getD j 0 == nI i)).map nI).length ≤ j := by
            rw [List.length_map]
            have := List.length_filter_le (fun j => a.getD j 0 == nI i) (List.range j)
            rw [List.length_range] at this
            exact this
          have nj : ∀ s2, MAcc b n s0 (b + 2 * i + zis ((List.range i).map (zrowi x))) (((List.range i).map (zrowi x)).map zR ++ (((List.range (j + 1)).filter (fun j => a.getD j 0 == nI i)).map nI).map zI) s2 → ExM l E w (d + 4) MX10_shapes 409 [some (.ref w.1), none, some (.int (nI p)), some (.int (nI n)), some (.int 1), some (.int (nI W)), none, some (.int (nI i)), some (.int (nI (n + (((List.range i).map (zrowi x)).map zR).length))), some (.int (nI j + 1))] [] s2 Q := by
            intro s2 q2
            rw [nI_1]
            exact ihj (j + 1) s2 (by omega) q2
          refine vX10_shapes_409 (M_sizeA hst hA' hr (by omega) ⟨_, rfl, pk_le a.length j (fun c => by omega) (fun _ => ⟨fun c => absurd rfl c, fun _ => ?_⟩) rfl rfl⟩)
          rw [nI_l2, nI_add, nI_clamp (by omega), r2]
          refine ⟨inB_n (by omega), fun c => ⟨fun _ => nj s' ?_, fun c => absurd c (by decide)⟩, fun c => ?_⟩
          · rw [List.range_succ, List.filter_append, List.filter_cons_of_neg (by simpa using c), List.filter_nil, List.append_nil]
            exact hA'
          · refine hA'.pI hst (by rw [List.length_append, hl, List.length_map]; omega) (fun s2 q2 => ⟨fun _ => nj s2 ?_, fun c => absurd c (by decide)⟩)
            rw [List.range_succ, List.filter_append, List.filter_cons_of_pos (by simpa using c), List.filter_nil, List.map_append, List.map_append, ← List.append_assoc]
            exact q2
      exact main a.length 0 s (by omega) (by rw [List.range_zero, List.filter_nil, List.map_nil, List.map_nil, List.append_nil]; exact hA)
    · -- turn
      have ex := zk2 hx
      have eR : zrowi x i = (zt x).filterMap (fun r => r[i]?) := by unfold zrowi; rw [if_pos hx]
      rw [ex] at hr wx
      have ek : nI (zk x) = 2 := by rw [hx]; rfl
      rw [ek] at fin ⊢
      generalize zt x = a at hr wx eR
      have wl : a.length ≤ 20 := wx.1
      have main : ∀ m' j (s' : MS), j + m' = a.length → MAcc b n s0 (b + 2 * i + zis ((List.range i).map (zrowi x))) (((List.range i).map (zrowi x)).map zR ++ ((a.take j).filterMap (fun r => r[i]?)).map zI) s' → ExM l E w (d + 4) MX10_shapes 409 [some (.ref w.1), none, some (.int (nI p)), some (.int (nI n)), some (.int 2), some (.int (nI W)), none, some (.int (nI i)), some (.int (nI (n + (((List.range i).map (zrowi x)).map zR).length))), some (.int (nI j))] [] s' Q := by
        intro m'
        induction m' with
        | zero =>
          intro j s' hj hA'
          have hj : j = a.length := hj
          rw [List.take_of_length_le (by omega)] at hA'
          exact vX10_shapes_409 (M_sizeA hst hA' hr (by omega) ⟨_, rfl, pk_le a.length j (fun _ => fin s' _ eR.symm hA') (fun c => by omega) rfl rfl⟩)
        | succ m' ihj =>
          intro j s' hj hA'
          have hel : zel (zT a) j = zR (a.getD j []) := getD_map zR a [] (zI 0) (by omega)
          have hln : ((a.take j).filterMap (fun r => r[i]?)).length ≤ j := by
            have := List.length_filterMap_le (fun r : List Int32 => r[i]?) (a.take j)
            rw [List.length_take] at this
            omega
          have h6 := wx.2.2 _ (getD_mem [] (show j < a.length by omega))
          have nj : ∀ s2, MAcc b n s0 (b + 2 * i + zis ((List.range i).map (zrowi x))) (((List.range i).map (zrowi x)).map zR ++ ((a.take (j + 1)).filterMap (fun r => r[i]?)).map zI) s2 → ExM l E w (d + 4) MX10_shapes 409 [some (.ref w.1), none, some (.int (nI p)), some (.int (nI n)), some (.int 2), some (.int (nI W)), none, some (.int (nI i)), some (.int (nI (n + (((List.range i).map (zrowi x)).map zR).length))), some (.int (nI j + 1))] [] s2 Q := by
            intro s2 q2
            rw [nI_1]
            exact ihj (j + 1) s2 (by omega) q2
          refine vX10_shapes_409 (M_sizeA hst hA' hr (by omega) ⟨_, rfl, pk_le a.length j (fun c => by omega) (fun _ => ⟨fun _ => ⟨fun c => absurd rfl c, fun _ => ?_⟩, fun c => absurd c (by decide)⟩) rfl rfl⟩)
          refine M_partA hst hA' hr (by omega) (show j < a.length by omega) (by show 1 < 2; decide) (by show ¬ zk (zel (zT a) j) = 0; rw [hel]; show ¬ 1 = 0; decide) (fun q hq => ⟨_, rfl, ?_⟩)
          have hq : rmT (s0.2.2.1 104) b true (zel (zT a) j) q 0 := hq
          rw [hel] at hq
          refine M_sizeA hst hA' hq (by omega) ⟨_, rfl, pk_le (a.getD j []).length i (fun c => nj s' ?_) (fun c => ?_) rfl rfl⟩
          · rw [take_succ_getD a [] j (by omega), List.filterMap_append, zfm1, if_neg (by omega), List.append_nil]
            exact hA'
          · refine M_partA hst hA' hr (by omega) (show j < a.length by omega) (by show 1 < 2; decide) (by show ¬ zk (zel (zT a) j) = 0; rw [hel]; show ¬ 1 = 0; decide) (fun q' hq' => ⟨_, rfl, ?_⟩)
            have hq' : rmT (s0.2.2.1 104) b true (zel (zT a) j) q' 0 := hq'
            rw [hel] at hq'
            refine hA'.pE hst hq' (by omega) c (by rw [List.length_append, hl, List.length_map]; omega) (fun s2 q2 => nj s2 ?_)
            have e : zel (zR (a.getD j [])) i = zI ((a.getD j []).getD i 0) := getD_map zI _ 0 (zI 0) c
            rw [e, List.append_assoc] at q2
            rw [take_succ_getD a [] j (by omega), List.filterMap_append, zfm1, if_pos c, List.map_append]
            exact q2
      exact main a.length 0 s (by omega) (by rw [List.take_zero, List.filterMap_nil, List.map_nil, List.append_nil]; exact hA)
end MS2
