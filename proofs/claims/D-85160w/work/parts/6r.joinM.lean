/-! THE MODEL: join, pick, find -/
theorem zfind_at {a : List Int32} {v : Int32} {i : Nat} (hi : i < a.length) (h : a.getD i 0 = v) (hb : ∀ j, j < i → a.getD j 0 ≠ v) : zfind a v = nI i := by
  unfold zfind
  have : a.findIdx? (fun x => x == v) = some i := by
    rw [List.findIdx?_eq_some_iff_getElem]
    refine ⟨hi, ?_, fun j hj => ?_⟩
    · rw [getD_lt 0 hi] at h
      simpa using h
    · have := hb j hj
      rw [getD_lt 0 (by omega)] at this
      simpa using this
  rw [this]
theorem zfind_no {a : List Int32} {v : Int32} (hb : ∀ j, j < a.length → a.getD j 0 ≠ v) : zfind a v = -1 := by
  unfold zfind
  have : a.findIdx? (fun x => x == v) = none := by
    rw [List.findIdx?_eq_none_iff]
    intro x hx
    obtain ⟨j, hj, e⟩ := List.getElem_of_mem hx
    have := hb j hj
    rw [getD_lt 0 hj, e] at this
    simpa using this
  rw [this]
def zall (c : Bool) (t : Th) : List Th := if c = true then ze t else [t]
theorem zjoin_eq {x y : Th} {k : Nat} (hk : k = if zk x = 3 ∨ zk y = 3 then 3 else if zk x = 2 ∨ zk y = 2 then 2 else 1) (h2 : k = 2 → ¬ zk x = 0 ∧ ¬ zk y = 0) : zjoin x y = zmk (zof k (zall (zk x == k) x ++ zall (zk y == k) y)) := by
  have hv : ∀ t : Th, zk t ≤ 1 → (zall (zk t == 1) t).map zv = if zk t = 1 then zr t else [zv t] := by
    intro t ht
    rcases zk_c t with e | e | e | e
    · rw [zk0 e]; rfl
    · rw [zk1 e]
      show ((zr t).map zI).map zv = zr t
      rw [List.map_map]
      exact (List.map_congr_left (fun _ _ => rfl)).trans (List.map_id _)
    · omega
    · omega
  have hr : ∀ t : Th, zk t = 1 ∨ zk t = 2 → (zall (zk t == 2) t).map zr = if zk t = 2 then zt t else [zr t] := by
    intro t ht
    rcases ht with e | e
    · rw [zk1 e]; rfl
    · rw [zk2 e]
      show ((zt t).map zR).map zr = zt t
      rw [List.map_map]
      exact (List.map_congr_left (fun _ _ => rfl)).trans (List.map_id _)
  have kx := zk_le x
  have ky := zk_le y
  unfold zjoin
  by_cases c3 : zk x = 3 ∨ zk y = 3
  · rw [if_pos c3] at hk ⊢
    subst hk
    show _ = zmk (zP _)
    have : ∀ t : Th, (if zk t = 3 then ze t else [t]) = zall (zk t == 3) t := by
      intro t
      unfold zall
      by_cases e : zk t = 3 <;> simp [e]
    rw [this, this]
  · rw [if_neg c3] at hk ⊢
    by_cases c2 : zk x = 2 ∨ zk y = 2
    · rw [if_pos c2] at hk ⊢
      subst hk
      obtain ⟨hx0, hy0⟩ := h2 rfl
      rw [if_neg (by omega)]
      show _ = zmk (zT _)
      rw [List.map_append, hr x (by omega), hr y (by omega)]
    · rw [if_neg c2] at hk ⊢
      subst hk
      show _ = zmk (zR _)
      rw [List.map_append, hv x (by omega), hv y (by omega)]
section MJ
variable {l : Launch} {E : EN} {w : MO} {d : Nat} {s s0 : MS} {Q : Option Value → MS → Prop} {b n md b1 : Nat}
theorem M_all (hst : l.stackTraces = false) {vs : List Th} {t : Th} {k v : Int32} (ha : MAcc b n s0 b vs s) (hv : rmV (s0.2.2.1 104) b k v t) (wt : ZW t) (hb : b ≤ 157600) (c : Bool) (hc : c = true → ¬ zk t = 0) (hn : n + vs.length ≤ 8500) (hQ : ∀ s', MAcc b n s0 b (vs ++ zall c t) s' → Q none s') : EvM l E w (d + 2) MX10_all [.ref w.1, .int k, .int v, .int (fl c)] s Q := by
  have h64 := zw_zn wt
  have hze := zn_ze t
  have one : c = false → EvM l E w (d + 1) MX10_push [.ref w.1, .int k, .int v] s (fun r s1 => r = none ∧ Q none s1) := by
    intro hcf
    subst hcf
    refine M_push hst ha.sp (by omega) ⟨rfl, hQ _ ?_⟩
    refine ha.push (rmV_mono ha.2.1 ha.1.2.2.2.1 hv) (by omega)
  by_cases h0 : zk t = 0
  · have hcf : c = false := by
      cases c with
      | true => exact absurd h0 (hc rfl)
      | false => rfl
    have hk : k = 0 := by
      rcases hv with ⟨_, q, _⟩ | ⟨q, _⟩
      · exact q
      · exact absurd h0 q
    subst hk
    exact eX10_all hst ⟨fun _ => one hcf, fun c => absurd rfl c⟩
  · obtain ⟨rfl, p, rfl, hr⟩ := hv.thing h0
    refine eX10_all hst ⟨fun c => absurd c (by decide), fun _ => ?_⟩
    cases c with
    | false => exact ⟨fun c => absurd rfl c, fun _ => one rfl⟩
    | true =>
      refine ⟨fun _ => ?_, fun c => absurd c (by decide)⟩
      have main : ∀ m i (s' : MS), i + m = zn t → MAcc b n s0 b (vs ++ (ze t).take i) s' → ExM l E w (d + 2) MX10_all 20 [some (.ref w.1), none, some (.int (nI p)), none, some (.int (nI i))] [] s' Q := by
        intro m
        induction m with
        | zero =>
          intro i s' hi hA
          have hi : i = zn t := hi
          rw [List.take_of_length_le (by omega)] at hA
          exact vX10_all_20 (M_sizeA hst hA hr (by omega) ⟨_, rfl, pk_le (zn t) i (fun _ => hQ s' hA) (fun c => by omega) rfl rfl⟩)
        | succ m ih =>
          intro i s' hi hA
          refine vX10_all_20 (M_sizeA hst hA hr (by omega) ⟨_, rfl, pk_le (zn t) i (fun c => by omega) (fun _ => ?_) rfl rfl⟩)
          refine hA.pE hst hr (by omega) (by omega) (by rw [List.length_append, List.length_take]; omega) (fun s2 q2 => ?_)
          rw [nI_1]
          refine ih (i + 1) s2 (by omega) ?_
          rw [take_succ_getD (ze t) (zI 0) i (by omega), ← List.append_assoc]
          exact q2
      refine main (zn t) 0 s (by omega) ?_
      rw [List.take_zero, List.append_nil]
      exact ha
theorem zall_mem {x t : Th} {k : Nat} (wx : ZW x) (hk1 : k = 1 → zk x ≤ 1) (hk2 : k = 2 → zk x = 1 ∨ zk x = 2) (ht : t ∈ zall (zk x == k) x) : ZW t ∧ (k = 1 → zk t = 0) ∧ (k = 2 → zk t = 1) := by
  unfold zall at ht
  by_cases e : zk x = k
  · rw [if_pos (by simpa using e)] at ht
    obtain ⟨i, hi, et⟩ := List.getElem_of_mem ht
    have e2 : t = zel x i := by rw [← et]; exact (getD_lt _ hi).symm
    have hi' : i < zn x := by rw [zn_ze]; exact hi
    rw [e2]
    exact ⟨zw_zel wx i, fun c => (zel_kind hi').1 (by omega), fun c => (zel_kind hi').2 (by omega)⟩
  · rw [if_neg (by simpa using e)] at ht
    rw [List.mem_singleton.mp ht]
    exact ⟨wx, fun c => by have := hk1 c; omega, fun c => by have := hk2 c; omega⟩
theorem M_join (hst : l.stackTraces = false) {x y : Th} {vx vy : Int32} (hi : MOk b n md [x, y] s) (hvx : vx = s.2.2.1 107 n) (hvy : vy = s.2.2.1 107 (n + 1)) (hs : zk x = 3 ∨ zk y = 3 ∨ ((zk x = 2 → ¬ zk y = 0) ∧ (zk y = 2 → ¬ zk x = 0))) (hQ : ∀ s', mop b n md (zbi2 19 x y) s s' → Q none s') : EvM l E w (d + 4) MX10_join [.ref w.1, .int vx, .int vy, .int (nI n)] s Q := by
  have ha := hi.acc
  have hC := hi.ctx
  have hn := hC.2.1
  have hb := hC.1
  obtain ⟨m4, hx, hy, wx, wy⟩ := hi.two
  have kx := zk_le x
  have ky := zk_le y
  obtain ⟨k, hk⟩ : ∃ k, k = if zk x = 3 ∨ zk y = 3 then 3 else if zk x = 2 ∨ zk y = 2 then 2 else 1 := ⟨_, rfl⟩
  have hk123 : k = 1 ∨ k = 2 ∨ k = 3 := by
    rw [hk]
    split
    · exact Or.inr (Or.inr rfl)
    · split
      · exact Or.inr (Or.inl rfl)
      · exact Or.inl rfl
  have f1 : k = 1 → zk x ≤ 1 ∧ zk y ≤ 1 := by
    intro c
    rw [hk] at c
    split at c
    · omega
    · split at c
      · omega
      · omega
  have f2 : k = 2 → ¬ zk x = 3 ∧ ¬ zk y = 3 ∧ ¬ zk x = 0 ∧ ¬ zk y = 0 := by
    intro c
    rw [hk] at c
    split at c
    · omega
    · split at c
      · omega
      · omega
  rw [zbi2_19, zjoin_eq hk (fun c => ⟨(f2 c).2.2.1, (f2 c).2.2.2⟩)] at hQ
  rw [← hvx] at hx
  rw [← hvy] at hy
  refine eX10_join hst ?_
  rw [nI_1, nI_clamp (by omega), nI_clamp (by omega)]
  refine ⟨inB_n (by omega), fun y1 e1 => ⟨inB_n (by omega), fun y2 e2 => ?_⟩⟩
  rw [← e1] at hx
  rw [← e2] at hy
  refine M_kindAt hst (by rw [← e1, ← hvx]; exact hx) (by omega) (by omega) ⟨_, rfl, ?_⟩
  refine M_kindAt hst (by rw [← e2, ← hvy]; exact hy) (by omega) (by omega) ⟨_, rfl, ?_⟩
  have hlz : ∀ (c : Bool) (t : Th), ZW t → (zall c t).length ≤ 64 := by
    intro c t wt
    unfold zall
    split
    · rw [← zn_ze]; exact zw_zn wt
    · show 1 ≤ 64; decide
  have go : ∀ b0 : Int32, b0 = nI k → ExM l E w (d + 4) MX10_join 67 [some (.ref w.1), some (.int vx), some (.int vy), some (.int (nI n)), some (.int y1), some (.int y2), some (.int (nI (zk x))), some (.int (nI (zk y))), none] [.int b0] s Q := by
    intro b0 eb
    subst eb
    have fin : ∀ s2, MAcc b n s b ([] ++ zall (zk x == k) x ++ zall (zk y == k) y) s2 → EvM l E w (d + 3) MX10_builds [.ref w.1, .int (nI k), .int (nI n)] s2 (fun r s1 => r = none ∧ Q none s1) := by
      intro s2 q2
      rw [List.nil_append] at q2
      refine K_bm hst hC q2 hk123 (fun c v hv => ?_) (fun c v hv => ?_) (fun v hv => ?_) hQ
      · rcases List.mem_append.mp hv with hv | hv
        · exact (zall_mem wx (fun c => (f1 c).1) (fun c => by have := f2 c; omega) hv).2.1 c
        · exact (zall_mem wy (fun c => (f1 c).2) (fun c => by have := f2 c; omega) hv).2.1 c
      · rcases List.mem_append.mp hv with hv | hv
        · exact (zall_mem wx (fun c => (f1 c).1) (fun c => by have := f2 c; omega) hv).2.2 c
        · exact (zall_mem wy (fun c => (f1 c).2) (fun c => by have := f2 c; omega) hv).2.2 c
      · rcases List.mem_append.mp hv with hv | hv
        · exact (zall_mem wx (fun c => (f1 c).1) (fun c => by have := f2 c; omega) hv).1
        · exact (zall_mem wy (fun c => (f1 c).2) (fun c => by have := f2 c; omega) hv).1
    have second : ∀ s1, MAcc b n s b ([] ++ zall (zk x == k) x) s1 → ((¬ nI (zk y) = nI k → (EvM l E w (d + 3) MX10_all [.ref w.1, .int y2, .int vy, .int 0] s1 (fun r s2 => r = none ∧ (EvM l E w (d + 3) MX10_builds [.ref w.1, .int (nI k), .int (nI n)] s2 (fun r s3 => r = none ∧ Q none s3))))) ∧ (nI (zk y) = nI k → (EvM l E w (d + 3) MX10_all [.ref w.1, .int y2, .int vy, .int 1] s1 (fun r s4 => r = none ∧ (EvM l E w (d + 3) MX10_builds [.ref w.1, .int (nI k), .int (nI n)] s4 (fun r s5 => r = none ∧ Q none s5)))))) := by
      intro s1 q1
      have hl := hlz (zk x == k) x wx
      refine bn_eq (zk y) k (fun c => ?_) (fun c => ?_) rfl rfl
      · have e : (zk y == k) = false := by simpa using c
        rw [e] at fin
        exact M_all hst q1 hy wy hb false (fun c => by cases c) (by show n + (zall (zk x == k) x).length ≤ 8500; omega) (fun s2 q2 => ⟨rfl, fin s2 q2⟩)
      · have e : (zk y == k) = true := by simpa using c
        rw [e] at fin
        exact M_all hst q1 hy wy hb true (fun _ => by omega) (by show n + (zall (zk x == k) x).length ≤ 8500; omega) (fun s2 q2 => ⟨rfl, fin s2 q2⟩)
    refine vX10_join_67 (bn_eq (zk x) k (fun c => ?_) (fun c => ?_) rfl rfl)
    · have e : (zk x == k) = false := by simpa using c
      rw [e] at second
      exact M_all hst ha hx wx hb false (fun c => by cases c) (by show n + 0 ≤ 8500; omega) (fun s1 q1 => ⟨rfl, second s1 q1⟩)
    · have e : (zk x == k) = true := by simpa using c
      rw [e] at second
      exact M_all hst ha hx wx hb true (fun _ => by omega) (by show n + 0 ≤ 8500; omega) (fun s1 q1 => ⟨rfl, second s1 q1⟩)
  refine pk_eq (zk x) 3 (fun c => go 3 (by rw [hk, if_pos (Or.inl c)]; rfl)) (fun c => bn_eq (zk y) 3 (fun c2 => ?_) (fun c2 => go 3 (by rw [hk, if_pos (Or.inr c2)]; rfl)) rfl rfl) rfl rfl
  refine pk_eq (zk x) 2 (fun c3 => go 2 (by rw [hk, if_neg (by omega), if_pos (Or.inl c3)]; rfl)) (fun c3 => bn_eq (zk y) 2 (fun c4 => go 1 (by rw [hk, if_neg (by omega), if_neg (by omega)]; rfl)) (fun c4 => go 2 (by rw [hk, if_neg (by omega), if_pos (Or.inr c4)]; rfl)) rfl rfl) rfl rfl
theorem M_findIn (hst : l.stackTraces = false) {vs : List Th} {p : Nat} {a : List Int32} {v : Int32} (ha : MAcc b n s0 b1 vs s) (hr : rmT (s0.2.2.1 104) b true (zR a) p 0) (hb : b ≤ 157600) (hQ : Q (some (.int (zfind a v))) s) : EvM l E w (d + 1) MX10_findIn [.ref w.1, .int (nI p), .int v] s Q := by
  have hal : a.length ≤ b := by have h4 := (rmT_head hr).2.2.2; have : p + 2 + a.length ≤ b := h4; omega
  refine eX10_findIn hst ?_
  have main : ∀ m i, i + m = a.length → (∀ j, j < i → a.getD j 0 ≠ v) → ExM l E w (d + 1) MX10_findIn 2 [some (.ref w.1), some (.int (nI p)), some (.int v), some (.int (nI i))] [] s Q := by
    intro m
    induction m with
    | zero =>
      intro i hi hj
      have hi : i = a.length := hi
      rw [zfind_no (fun j h => hj j (by omega))] at hQ
      exact vX10_findIn_2 (M_sizeA hst ha hr (by omega) ⟨_, rfl, pk_le a.length i (fun _ => hQ) (fun c => by omega) rfl rfl⟩)
    | succ m ih =>
      intro i hi hj
      obtain ⟨r1, r2⟩ := ha.rowAt hr (show i < a.length by omega)
      refine vX10_findIn_2 (M_sizeA hst ha hr (by omega) ⟨_, rfl, pk_le a.length i (fun c => by omega) (fun _ => ?_) rfl rfl⟩)
      rw [nI_l2, nI_add, nI_clamp (by omega), r2, nI_1]
      refine ⟨inB_n (by omega), fun c => ih (i + 1) (by omega) (fun j h => ?_), fun c => ?_⟩
      · by_cases e : j = i
        · rw [e]; exact c
        · exact hj j (by omega)
      · rw [zfind_at (by omega) c hj] at hQ
        exact hQ
  exact main a.length 0 (by omega) (fun j h => absurd h (Nat.not_lt_zero j))
theorem M_pick (hst : l.stackTraces = false) {x y : Th} {vx vy : Int32} (hi : MOk b n md [x, y] s) (hvx : vx = s.2.2.1 107 n) (hvy : vy = s.2.2.1 107 (n + 1)) (hx0 : ¬ zk x = 0) (hy1 : zk y = 1) (hQ : ∀ s', mop b n md (zbi2 23 x y) s s' → Q none s') : EvM l E w (d + 4) MX10_pick [.ref w.1, .int vx, .int vy, .int (nI n)] s Q := by
  have ha := hi.acc
  have ha0 := hi.acc0
  have hC := hi.ctx
  have hn := hC.2.1
  have hb := hC.1
  obtain ⟨m4, hx, hy, wx, wy⟩ := hi.two
  rw [← hvx] at hx
  rw [← hvy] at hy
  obtain ⟨-, p, rfl, hr⟩ := hx.thing hx0
  obtain ⟨-, q, rfl, hq⟩ := hy.thing (by omega)
  have hh := rmT_head hr
  have kx := zk_le x
  have hze := zn_ze x
  have h64 := zw_zn wx
  rw [zbi2_23, if_neg (by omega)] at hQ
  rw [zk1 hy1] at hq wy
  generalize zr y = r at hq wy hQ
  have wr : r.length ≤ 64 := wy
  refine eX10_pick hst ⟨inB_n (by omega), fun y1 e1 => ?_⟩
  rw [nI_clamp (by omega), hh.2.1] at e1
  subst e1
  refine M_sizeA hst ha0 hr (by omega) ⟨_, rfl, M_sizeA hst ha0 hq (by omega) ⟨_, rfl, pk_eq (zn x) r.length (fun c => ?_) (fun c => ?_) rfl rfl⟩⟩
  · rw [if_neg (by omega)] at hQ
    have hpk : ∀ (l1 : List Th) (r1 : List Int32) (l2 : List Th) (r2 : List Int32), l1.length = r1.length → zpick (l1 ++ l2) (r1 ++ r2) = zpick l1 r1 ++ zpick l2 r2 := by
      intro l1
      induction l1 with
      | nil =>
        intro r1 l2 r2 h
        have : r1 = [] := List.length_eq_zero_iff.mp h.symm
        subst this
        rfl
      | cons a l1 ih =>
        intro r1 l2 r2 h
        match r1, h with
        | c :: r1, h =>
          show (if c = 0 then zpick (l1 ++ l2) (r1 ++ r2) else a :: zpick (l1 ++ l2) (r1 ++ r2)) = (if c = 0 then zpick l1 r1 else a :: zpick l1 r1) ++ zpick l2 r2
          rw [ih r1 l2 r2 (Nat.succ.inj h)]
          split <;> rfl
    have hpl : ∀ (l1 : List Th) (r1 : List Int32), (zpick l1 r1).length ≤ l1.length := by
      intro l1
      induction l1 with
      | nil => intro r1; exact Nat.le_refl 0
      | cons a l1 ih =>
        intro r1
        match r1 with
        | [] => exact Nat.zero_le _
        | c :: r1 =>
          show (if c = 0 then zpick l1 r1 else a :: zpick l1 r1).length ≤ _
          have := ih r1
          split
          · exact Nat.le_succ_of_le this
          · exact Nat.succ_le_succ this
    have hpm : ∀ (l1 : List Th) (r1 : List Int32) (t : Th), t ∈ zpick l1 r1 → t ∈ l1 := by
      intro l1
      induction l1 with
      | nil => intro r1 t h; cases h
      | cons a l1 ih =>
        intro r1 t h
        match r1, h with
        | c :: r1, h =>
          have h : t ∈ (if c = 0 then zpick l1 r1 else a :: zpick l1 r1) := h
          split at h
          · exact List.mem_cons_of_mem _ (ih r1 t h)
          · rcases List.mem_cons.mp h with rfl | h
            · exact List.mem_cons_self
            · exact List.mem_cons_of_mem _ (ih r1 t h)
    have main : ∀ m i (s' : MS), i + m = zn x → MAcc b n s b (zpick ((ze x).take i) (r.take i)) s' → ExM l E w (d + 4) MX10_pick 39 [some (.ref w.1), some (.int (nI p)), some (.int (nI q)), some (.int (nI n)), some (.int (nI (zk x))), some (.int (nI i))] [] s' Q := by
      intro m
      induction m with
      | zero =>
        intro i s' hi hA
        have hi : i = zn x := hi
        rw [List.take_of_length_le (by omega), List.take_of_length_le (by omega)] at hA
        refine vX10_pick_39 (M_sizeA hst hA hr (by omega) ⟨_, rfl, pk_le (zn x) i (fun _ => ?_) (fun c => by omega) rfl rfl⟩)
        have hmem : ∀ t ∈ zpick (ze x) r, ∃ i, i < zn x ∧ t = zel x i := by
          intro t ht
          obtain ⟨i, hi, e⟩ := List.getElem_of_mem (hpm _ _ t ht)
          exact ⟨i, by omega, by rw [← e]; exact (getD_lt _ hi).symm⟩
        refine K_bm hst hC hA (by omega) (fun c v hv => ?_) (fun c v hv => ?_) (fun v hv => ?_) hQ
        · obtain ⟨i, hi, rfl⟩ := hmem v hv
          exact (zel_kind hi).1 c
        · obtain ⟨i, hi, rfl⟩ := hmem v hv
          exact (zel_kind hi).2 c
        · obtain ⟨i, hi, rfl⟩ := hmem v hv
          exact zw_zel wx i
      | succ m ih =>
        intro i s' hi hA
        obtain ⟨r1, r2⟩ := hA.rowAt hq (show i < r.length by omega)
        have e := hpk ((ze x).take i) (r.take i) [zel x i] [r.getD i 0] (by rw [List.length_take, List.length_take]; omega)
        have hl := hpl ((ze x).take i) (r.take i)
        rw [List.length_take] at hl
        have nx : ∀ s2, MAcc b n s b (zpick ((ze x).take i) (r.take i) ++ zpick [zel x i] [r.getD i 0]) s2 → ExM l E w (d + 4) MX10_pick 39 [some (.ref w.1), some (.int (nI p)), some (.int (nI q)), some (.int (nI n)), some (.int (nI (zk x))), some (.int (nI i + 1))] [] s2 Q := by
          intro s2 q2
          rw [nI_1]
          refine ih (i + 1) s2 (by omega) ?_
          rw [take_succ_getD (ze x) (zI 0) i (by omega), take_succ_getD r 0 i (by omega)]
          rw [← e] at q2
          exact q2
        refine vX10_pick_39 (M_sizeA hst hA hr (by omega) ⟨_, rfl, pk_le (zn x) i (fun c => by omega) (fun _ => ?_) rfl rfl⟩)
        rw [nI_l2, nI_add, nI_clamp (by omega), r2]
        refine ⟨inB_n (by omega), fun c0 => nx s' ?_, fun c0 => hA.pE hst hr (by omega) (by omega) (by omega) (fun s2 q2 => nx s2 ?_)⟩
        · have : zpick [zel x i] [r.getD i 0] = [] := if_pos c0
          rw [this, List.append_nil]; exact hA
        · have : zpick [zel x i] [r.getD i 0] = [zel x i] := if_neg c0
          rw [this]; exact q2
    exact main (zn x) 0 _ (by omega) ha
  · rw [if_pos c] at hQ
    exact K_tr hst hC ha0 (by omega) 4 rfl hQ
end MJ
