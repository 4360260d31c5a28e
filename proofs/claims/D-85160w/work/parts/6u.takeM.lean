/-! THE MODEL: take, drop -/
theorem i64_neg {x : Int64} {p : Int} (h : -x.toInt = p) (h1 : -2 ^ 62 ≤ p) (h2 : p < 2 ^ 62) : (-x).toInt = p := by
  rw [Int64.toInt_neg, h]
  exact Int.bmod_eq_of_le (by omega) (by omega)
theorem i32_add {x y : Int32} {p : Int} (h : x.toInt + y.toInt = p) (h1 : -2 ^ 30 ≤ p) (h2 : p < 2 ^ 30) : (x + y).toInt = p := by
  rw [Int32.toInt_add, h]
  exact Int.bmod_eq_of_le (by omega) (by omega)
theorem zneg_rng (v : Int32) : 0 ≤ zneg v ∧ zneg v ≤ 2 ^ 31 := by
  have := i32_rng v
  unfold zneg
  split
  · rename_i c; rw [i32_neg] at c; omega
  · rename_i c; rw [i32_neg] at c; omega
theorem zneg_l {v : Int32} : (¬ v < 0 → v.toInt64.toInt = zneg v) ∧ (v < 0 → (-v.toInt64).toInt = zneg v) := by
  have hr := i32_rng v
  refine ⟨fun c => ?_, fun c => ?_⟩
  · unfold zneg; rw [if_neg c, i64_toInt]
  · unfold zneg
    rw [if_pos c]
    exact i64_neg (by rw [i64_toInt]) (by omega) (by omega)
theorem lN_of {x : Int64} {k : Nat} (h : x.toInt = k) (hk : k < 2 ^ 31) : x = lN k := by
  rw [← Int64.toInt_inj, h, lN_toInt hk]
theorem zdf_zw (k : Nat) : ZW (zdf k) := by
  unfold zdf
  split
  · exact Nat.zero_le 64
  · exact trivial
theorem zstr_getD (dd : Th) (L : List Th) (m : Int) (K k : Nat) (h : k < K) : (zstr dd L m K).getD k (zI 0) = if 0 ≤ m + (k : Int) then L.getD (m + (k : Int)).toNat dd else dd := by
  unfold zstr
  rw [getD_map _ _ 0 (zI 0) (by rw [List.length_range]; exact h), getD_lt 0 (by rw [List.length_range]; exact h), List.getElem_range]
theorem zstr_len (dd : Th) (L : List Th) (m : Int) (K : Nat) : (zstr dd L m K).length = K := by unfold zstr; rw [List.length_map, List.length_range]
section ME
variable {l : Launch} {E : EN} {w : MO} {d : Nat} {s s0 : MS} {Q : Option Value → MS → Prop} {b n md b1 : Nat}
theorem M_take (hst : l.stackTraces = false) {x y : Th} {vy : Int32} (hi : MOk b n md [x, y] s) (hvy : vy = s.2.2.1 107 (n + 1)) (hx0 : zk x = 0) (hy0 : ¬ zk y = 0) (hE : 154242 ≤ b ∧ s.2.2.1 104 154240 = 1 ∧ s.2.2.1 104 154241 = 0) (hQ : ∀ s', mop b n md (zbi2 20 x y) s s' → Q none s') : EvM l E w (d + 4) MX10_ends2_2 [.ref w.1, .int 20, .int (zv x), .int vy, .int (nI n)] s Q := by
  have ha := hi.acc
  have ha0 := hi.acc0
  have hC := hi.ctx
  have hn := hC.2.1
  have hb := hC.1
  obtain ⟨m4, hx, hy, wx, wy⟩ := hi.two
  rw [← hvy] at hy
  obtain ⟨-, p, rfl, hr⟩ := hy.thing hy0
  have hh := rmT_head hr
  have ky := zk_le y
  have hze := zn_ze y
  have h64 := zw_zn wy
  rw [zbi2_20, if_neg (by omega)] at hQ
  generalize zv x = v at hQ
  obtain ⟨g1, g2⟩ := zneg_rng v
  obtain ⟨F, hF⟩ : ∃ F : Int, F = if v < 0 then (zn y : Int) + v.toInt else 0 := ⟨_, rfl⟩
  rw [← hF] at hQ
  -- the loop
  have main : ∀ K : Nat, (K : Int) = zneg v → K ≤ 64 → (∀ s', mop b n md (zmk (zof (zk y) (zstr (zdf (zk y)) (ze y) F K))) s s' → Q none s') → ∀ a9 : Int32, a9.toInt = F → ∀ m k (s' : MS), k + m = K → MAcc b n s b ((zstr (zdf (zk y)) (ze y) F K).take k) s' → ExM l E w (d + 4) MX10_ends2_2 168 [some (.ref w.1), none, none, some (.int (nI p)), some (.int (nI n)), some (.int (nI (zk y))), some (.int (nI (zn y))), some (.long (lN K)), none, some (.int a9), some (.int (a9 + nI k)), none] [] s' Q := by
    intro K hK hK64 hQ a9 h9 m
    have hFr : -64 ≤ F ∧ F ≤ 64 := by
      rw [hF]
      split
      · rename_i c
        unfold zneg at hK
        rw [if_pos c] at hK
        omega
      · omega
    have hadd : ∀ k : Nat, k ≤ 64 → (a9 + nI k).toInt = F + (k : Int) := fun k hk => i32_add (by rw [h9, nI_toInt (by omega)]) (by omega) (by omega)
    induction m with
    | zero =>
      intro k s' hk hA
      have hk : k = K := hk
      subst hk
      rw [List.take_of_length_le (by rw [zstr_len]; exact Nat.le_refl _)] at hA
      have hm1 : ∀ t ∈ zstr (zdf (zk y)) (ze y) F k, t = zdf (zk y) ∨ ∃ i, i < zn y ∧ t = zel y i := by
        intro t ht
        obtain ⟨j, hj, rfl⟩ := List.mem_map.mp ht
        split
        · by_cases c : (F + (j : Int)).toNat < (ze y).length
          · exact Or.inr ⟨(F + (j : Int)).toNat, by omega, by rw [getD_lt _ c]; exact (getD_lt _ c).symm⟩
          · rw [List.getD, List.getElem?_eq_none (by omega)]; exact Or.inl rfl
        · exact Or.inl rfl
      refine vX10_ends2_2_168 ?_
      rw [lN_i]
      refine ⟨fun _ => K_bm hst hC hA (by omega) (fun c t ht => ?_) (fun c t ht => ?_) (fun t ht => ?_) hQ, fun c => absurd (Int32.le_refl _) c⟩
      · rcases hm1 t ht with rfl | ⟨i, hi, rfl⟩
        · rw [c]; rfl
        · exact (zel_kind hi).1 c
      · rcases hm1 t ht with rfl | ⟨i, hi, rfl⟩
        · rw [c]; rfl
        · exact (zel_kind hi).2 c
      · rcases hm1 t ht with rfl | ⟨i, hi, rfl⟩
        · exact zdf_zw _
        · exact zw_zel wy i
    | succ m ih =>
      intro k s' hk hA
      have ht : (zstr (zdf (zk y)) (ze y) F K).take (k + 1) = (zstr (zdf (zk y)) (ze y) F K).take k ++ [if 0 ≤ F + (k : Int) then (ze y).getD (F + (k : Int)).toNat (zdf (zk y)) else zdf (zk y)] := by
        rw [take_succ_getD _ (zI 0) k (by rw [zstr_len]; omega), zstr_getD _ _ _ _ _ (by omega)]
      have hl : ((zstr (zdf (zk y)) (ze y) F K).take k).length = k := by rw [List.length_take, zstr_len]; omega
      have hsp := hA.sp
      rw [hl] at hsp
      have hak := hadd k (by omega)
      have hnext : a9 + nI k + 1 = a9 + nI (k + 1) := by rw [Int32.add_assoc, nI_1]
      have nx : ∀ s2, MAcc b n s b ((zstr (zdf (zk y)) (ze y) F K).take (k + 1)) s2 → ExM l E w (d + 4) MX10_ends2_2 168 [some (.ref w.1), none, none, some (.int (nI p)), some (.int (nI n)), some (.int (nI (zk y))), some (.int (nI (zn y))), some (.long (lN K)), none, some (.int a9), some (.int (a9 + nI k + 1)), none] [] s2 Q := by
        intro s2 q2
        rw [hnext]
        exact ih (k + 1) s2 (by omega) q2
      have dfl : (if 0 ≤ F + (k : Int) then (ze y).getD (F + (k : Int)).toNat (zdf (zk y)) else zdf (zk y)) = zdf (zk y) → ((¬ nI (zk y) = 2 → ((¬ nI (zk y) = 2 → (EvM l E w (d + 3) MX10_push [.ref w.1, .int 0, .int 0] s' (fun r s2 => r = none ∧ ExM l E w (d + 4) MX10_ends2_2 168 [some (.ref w.1), none, none, some (.int (nI p)), some (.int (nI n)), some (.int (nI (zk y))), some (.int (nI (zn y))), some (.long (lN K)), none, some (.int a9), some (.int (a9 + nI k + 1)), none] [] s2 Q))) ∧ (nI (zk y) = 2 → (EvM l E w (d + 3) MX10_push [.ref w.1, .int 0, .int 154240] s' (fun r s3 => r = none ∧ ExM l E w (d + 4) MX10_ends2_2 168 [some (.ref w.1), none, none, some (.int (nI p)), some (.int (nI n)), some (.int (nI (zk y))), some (.int (nI (zn y))), some (.long (lN K)), none, some (.int a9), some (.int (a9 + nI k + 1)), none] [] s3 Q))))) ∧ (nI (zk y) = 2 → ((¬ nI (zk y) = 2 → (EvM l E w (d + 3) MX10_push [.ref w.1, .int 1, .int 0] s' (fun r s4 => r = none ∧ ExM l E w (d + 4) MX10_ends2_2 168 [some (.ref w.1), none, none, some (.int (nI p)), some (.int (nI n)), some (.int (nI (zk y))), some (.int (nI (zn y))), some (.long (lN K)), none, some (.int a9), some (.int (a9 + nI k + 1)), none] [] s4 Q))) ∧ (nI (zk y) = 2 → (EvM l E w (d + 3) MX10_push [.ref w.1, .int 1, .int 154240] s' (fun r s5 => r = none ∧ ExM l E w (d + 4) MX10_ends2_2 168 [some (.ref w.1), none, none, some (.int (nI p)), some (.int (nI n)), some (.int (nI (zk y))), some (.int (nI (zn y))), some (.long (lN K)), none, some (.int a9), some (.int (a9 + nI k + 1)), none] [] s5 Q)))))) := by
        intro hdf
        rw [hdf] at ht
        refine bn_eq (zk y) 2 (fun c => ⟨fun _ => ?_, fun c2 => ?_⟩) (fun c => ⟨fun c2 => ?_, fun _ => ?_⟩) rfl rfl
        · refine hA.pI hst (by omega) (fun s2 q2 => nx s2 ?_)
          rw [ht]
          have e0 : zdf (zk y) = zI 0 := if_neg c
          have q2 : MAcc b n s b ((zstr (zdf (zk y)) (ze y) F K).take k ++ [zI 0]) s2 := q2
          rw [← e0] at q2
          exact q2
        · rw [show (2 : Int32) = nI 2 from rfl, nI_eq (by omega) (by omega)] at c2
          exact absurd c2 c
        · exact absurd (by rw [c]; rfl) c2
        · refine M_push hst hsp (by omega) ⟨rfl, nx _ ?_⟩
          have hv : rmV (s'.2.2.1 104) b 1 154240 (zR []) := by
            refine Or.inr ⟨by show ¬ 1 = 0; decide, rfl, 154240, rfl, ?_⟩
            refine ⟨⟨hE.1, Or.inr (Nat.le_refl _)⟩, ?_, ?_, fun i hi => absurd hi (Nat.not_lt_zero i)⟩
            · rw [hA.cell (by omega)]; exact hE.2.1
            · rw [hA.cell (by omega)]; exact hE.2.2
          have := hA.push hv (by omega)
          rw [hl] at this
          rw [ht]
          have e0 : zdf (zk y) = zR [] := if_pos c
          rw [← e0] at this
          exact this
      refine vX10_ends2_2_168 ?_
      rw [lN_i]
      refine ⟨fun c => ?_, fun _ => ⟨fun c => dfl ?_, fun c => ⟨fun c2 => dfl ?_, fun c2 => ?_⟩⟩⟩
      · exfalso
        rw [Int32.le_iff_toInt_le, hak, hadd K hK64] at c
        omega
      · rw [i32_neg, hak] at c
        rw [if_neg (by omega)]
      · rw [i32_neg, hak] at c
        rw [Int32.le_iff_toInt_le, hak, nI_toInt (by omega)] at c2
        rw [if_pos (by omega), List.getD, List.getElem?_eq_none (by omega)]; rfl
      · rw [i32_neg, hak] at c
        rw [Int32.le_iff_toInt_le, hak, nI_toInt (by omega)] at c2
        have e : a9 + nI k = nI (F + (k : Int)).toNat := by
          rw [← Int32.toInt_inj, hak, nI_toInt (by omega)]; omega
        rw [e]
        refine hA.pE hst hr (by omega) (by omega) (by omega) (fun s2 q2 => ?_)
        rw [← e]
        refine nx s2 ?_
        rw [ht, if_pos (by omega), getD_lt _ (by omega)]
        have : zel y (F + (k : Int)).toNat = (ze y)[(F + (k : Int)).toNat]'(by omega) := getD_lt _ (by omega)
        rw [this] at q2
        exact q2
  -- from 66 on
  have h66 : ∀ y4 : Int64, y4.toInt = zneg v → zneg v ≤ (if zk y = 1 then 64 else 20) → ExM l E w (d + 4) MX10_ends2_2 66 [some (.ref w.1), some (.int 20), some (.int v), some (.int (nI p)), some (.int (nI n)), some (.int (nI (zk y))), some (.int (nI (zn y))), some (.long y4), none, none, none, none] [] s Q := by
    intro y4 e4 hle
    rw [if_neg (by omega)] at hQ
    have hK64 : (zneg v).toNat ≤ 64 := by split at hle <;> omega
    have hKK : (((zneg v).toNat : Nat) : Int) = zneg v := by omega
    have hyl : y4 = lN (zneg v).toNat := lN_of (by rw [e4, hKK]) (by omega)
    subst hyl
    refine vX10_ends2_2_66 ⟨fun _ => ⟨fun c => ?_, fun c => ?_⟩, fun c => absurd c (by decide)⟩
    · have nv : ¬ v < 0 := Int32.not_lt.mpr c
      rw [if_neg nv] at hF
      exact main _ hKK hK64 hQ 0 (by rw [hF]; rfl) (zneg v).toNat 0 _ (by omega) (by rw [List.take_zero]; exact ha)
    · have nv : v < 0 := Int32.not_le.mp c
      rw [if_pos nv] at hF
      refine fun y1 e1 => ?_
      rw [lN_i] at e1
      have ezn : zneg v = -v.toInt := by unfold zneg; rw [if_pos nv]
      have hy1 : y1.toInt = F := by
        rw [e1, Int32.sub_eq_add_neg]
        refine i32_add (p := F) ?_ (by omega) (by omega)
        rw [nI_toInt (by omega), sb_negT (by omega), hF]; omega
      have e0 : y1 = y1 + nI 0 := by rw [nI_0, Int32.add_zero]
      have := main _ hKK hK64 hQ y1 hy1 (zneg v).toNat 0 _ (by omega) (by rw [List.take_zero]; exact ha)
      rw [← e0] at this
      exact this
  refine eX10_ends2_2 hst ⟨inB_n (by omega), fun y1 e1 => ?_⟩
  rw [nI_clamp (by omega), hh.2.1] at e1
  subst e1
  have br : ∀ y4 : Int64, y4.toInt = zneg v → ((¬ (20 : Int32) = 20 → ExM l E w (d + 4) MX10_ends2_2 66 [some (.ref w.1), some (.int 20), some (.int v), some (.int (nI p)), some (.int (nI n)), some (.int (nI (zk y))), some (.int (nI (zn y))), some (.long y4), none, none, none, none] [] s Q) ∧ ((20 : Int32) = 20 → ((¬ nI (zk y) = 1 → (((lg_cmp y4 20) ≤ 0 → ExM l E w (d + 4) MX10_ends2_2 66 [some (.ref w.1), some (.int 20), some (.int v), some (.int (nI p)), some (.int (nI n)), some (.int (nI (zk y))), some (.int (nI (zn y))), some (.long y4), none, none, none, none] [] s Q) ∧ (¬ (lg_cmp y4 20) ≤ 0 → (EvM l E w (d + 3) MX10_trouble [.ref w.1, .int 2, .int (s.1 127)] s (fun r s5 => r = none ∧ Q none s5))))) ∧ (nI (zk y) = 1 → (((lg_cmp y4 64) ≤ 0 → ExM l E w (d + 4) MX10_ends2_2 66 [some (.ref w.1), some (.int 20), some (.int v), some (.int (nI p)), some (.int (nI n)), some (.int (nI (zk y))), some (.int (nI (zn y))), some (.long y4), none, none, none, none] [] s Q) ∧ (¬ (lg_cmp y4 64) ≤ 0 → (EvM l E w (d + 3) MX10_trouble [.ref w.1, .int 2, .int (s.1 127)] s (fun r s6 => r = none ∧ Q none s6)))))))) := by
    intro y4 e4
    have l20 : lg_cmp y4 20 ≤ 0 ↔ zneg v ≤ 20 := by rw [lg_cmp_le, Int64.le_iff_toInt_le, e4]; exact Iff.rfl
    have l64 : lg_cmp y4 64 ≤ 0 ↔ zneg v ≤ 64 := by rw [lg_cmp_le, Int64.le_iff_toInt_le, e4]; exact Iff.rfl
    have bad : (if zk y = 1 then (64 : Int) else 20) < zneg v → EvM l E w (d + 3) MX10_trouble [.ref w.1, .int 2, .int (s.1 127)] s (fun r s5 => r = none ∧ Q none s5) := by
      intro c
      rw [if_pos c] at hQ
      exact K_tr hst hC ha0 (by omega) 2 rfl hQ
    refine ⟨fun c => absurd rfl c, fun _ => ?_⟩
    rw [l20, l64]
    refine bn_eq (zk y) 1 (fun k => ⟨fun c => h66 y4 e4 (by rw [if_neg k]; exact c), fun c => bad (by rw [if_neg k]; omega)⟩) (fun k => ⟨fun c => h66 y4 e4 (by rw [if_pos k]; exact c), fun c => bad (by rw [if_pos k]; omega)⟩) rfl rfl
  refine M_sizeA hst ha0 hr (by omega) ⟨_, rfl, fun c y4 e4 => ?_, fun c y4 e4 => ?_⟩
  · exact br y4 (by rw [e4]; exact zneg_l.1 (Int32.not_lt.mpr c))
  · exact br y4 (by rw [e4]; exact zneg_l.2 (Int32.not_le.mp c))
theorem M_drop (hst : l.stackTraces = false) {x y : Th} {vy : Int32} (hi : MOk b n md [x, y] s) (hvy : vy = s.2.2.1 107 (n + 1)) (hx0 : zk x = 0) (hy0 : ¬ zk y = 0) (hQ : ∀ s', mop b n md (zbi2 21 x y) s s' → Q none s') : EvM l E w (d + 4) MX10_ends2_2 [.ref w.1, .int 21, .int (zv x), .int vy, .int (nI n)] s Q := by
  have ha := hi.acc
  have ha0 := hi.acc0
  have hC := hi.ctx
  have hn := hC.2.1
  have hb := hC.1
  obtain ⟨m4, hx, hy, wx, wy⟩ := hi.two
  rw [← hvy] at hy
  obtain ⟨-, p, rfl, hr⟩ := hy.thing hy0
  have hh := rmT_head hr
  have ky := zk_le y
  have hze := zn_ze y
  have h64 := zw_zn wy
  rw [zbi2_21, if_neg (by omega)] at hQ
  generalize zv x = v at hQ
  obtain ⟨g1, g2⟩ := zneg_rng v
  -- the loop: from F on, so many
  have main : ∀ F G : Nat, F + (zn y - G) ≤ zn y → G ≤ zn y → (∀ s', mop b n md (zmk (zof (zk y) (((ze y).drop F).take (zn y - G)))) s s' → Q none s') → ∀ m k (s' : MS), k + m = zn y - G → MAcc b n s b (((ze y).drop F).take k) s' → ExM l E w (d + 4) MX10_ends2_2 113 [some (.ref w.1), none, none, some (.int (nI p)), some (.int (nI n)), some (.int (nI (zk y))), some (.int (nI (zn y))), none, none, some (.int (nI G)), some (.int (nI F)), some (.int (nI (F + k)))] [] s' Q := by
    intro F G hFG hG hQ m
    have eend : nI F + nI (zn y) - nI G = nI (F + (zn y - G)) := by
      rw [nI_add, pk_sub (by omega)]
      congr 1; omega
    induction m with
    | zero =>
      intro k s' hk hA
      have hk : k = zn y - G := hk
      subst hk
      refine vX10_ends2_2_113 ?_
      rw [eend]
      refine pk_le _ _ (fun _ => K_bm hst hC hA (by omega) (fun c t ht => ?_) (fun c t ht => ?_) (fun t ht => ?_) hQ) (fun c => by omega) rfl rfl
      all_goals
        obtain ⟨i, hi', e⟩ := List.getElem_of_mem (List.mem_of_mem_drop (List.mem_of_mem_take ht))
        have et : t = zel y i := by rw [← e]; exact (getD_lt _ hi').symm
        rw [et]
      · exact (zel_kind (by omega)).1 c
      · exact (zel_kind (by omega)).2 c
      · exact zw_zel wy i
    | succ m ih =>
      intro k s' hk hA
      refine vX10_ends2_2_113 ?_
      rw [eend]
      refine pk_le _ _ (fun c => by omega) (fun _ => hA.pE hst hr (by omega) (by omega) (by rw [List.length_take]; omega) (fun s2 q2 => ?_)) rfl rfl
      rw [nI_1]
      refine ih (k + 1) s2 (by omega) ?_
      have e : zel y (F + k) = ((ze y).drop F).getD k (zI 0) := by
        show (ze y).getD (F + k) (zI 0) = _
        rw [List.getD, List.getD, List.getElem?_drop]
      rw [e] at q2
      rw [take_succ_getD ((ze y).drop F) (zI 0) k (by rw [List.length_drop]; omega)]
      exact q2
  have h66 : ∀ y4 : Int64, y4.toInt = zneg v → ExM l E w (d + 4) MX10_ends2_2 66 [some (.ref w.1), some (.int 21), some (.int v), some (.int (nI p)), some (.int (nI n)), some (.int (nI (zk y))), some (.int (nI (zn y))), some (.long y4), none, none, none, none] [] s Q := by
    intro y4 e4
    have fin : ∀ G : Nat, G = min (zneg v).toNat (zn y) → ((0 ≤ v → ExM l E w (d + 4) MX10_ends2_2 113 [some (.ref w.1), none, none, some (.int (nI p)), some (.int (nI n)), some (.int (nI (zk y))), some (.int (nI (zn y))), none, none, some (.int (nI G)), some (.int (nI G)), some (.int (nI G))] [] (sI s 108 (nI n)) Q) ∧ (¬ 0 ≤ v → ExM l E w (d + 4) MX10_ends2_2 113 [some (.ref w.1), none, none, some (.int (nI p)), some (.int (nI n)), some (.int (nI (zk y))), some (.int (nI (zn y))), none, none, some (.int (nI G)), some (.int 0), some (.int 0)] [] (sI s 108 (nI n)) Q)) := by
      intro G hG
      refine ⟨fun c => ?_, fun c => ?_⟩
      · rw [if_neg (Int32.not_lt.mpr c)] at hQ
        refine main G G (by omega) (by omega) (fun s' q => hQ s' ?_) (zn y - G) 0 _ (by omega) (by rw [List.take_zero]; exact ha)
        have e : ((ze y).drop G).take (zn y - G) = (ze y).drop (zneg v).toNat := by
          rw [List.take_of_length_le (by rw [List.length_drop]; omega)]
          by_cases h : (zneg v).toNat ≤ zn y
          · rw [hG, Nat.min_eq_left h]
          · rw [List.drop_of_length_le (by omega), List.drop_of_length_le (by omega)]
        rw [e] at q
        exact q
      · rw [if_pos (Int32.not_le.mp c)] at hQ
        refine main 0 G (by omega) (by omega) (fun s' q => hQ s' ?_) (zn y - G) 0 _ (by omega) (by rw [List.take_zero]; exact ha)
        have e : ((ze y).drop 0).take (zn y - G) = (ze y).take ((zn y : Int) - zneg v).toNat := by
          rw [List.drop_zero]
          congr 1; omega
        rw [e] at q
        exact q
    have lc : lg_cmp y4 (nI (zn y)).toInt64 ≤ 0 ↔ zneg v ≤ (zn y : Int) := by rw [lg_cmp_le, Int64.le_iff_toInt_le, e4, i64_toInt, nI_toInt (by omega)]
    refine vX10_ends2_2_66 ⟨fun c => absurd rfl c, fun _ => ?_⟩
    rw [lc]
    refine ⟨fun c y2 e2 => ?_, fun c => fin (zn y) (by omega)⟩
    have hyl : y4 = lN (zneg v).toNat := lN_of (by rw [e4]; omega) (by omega)
    rw [hyl, lN_i] at e2
    rw [e2]
    exact fin (zneg v).toNat (by omega)
  refine eX10_ends2_2 hst ⟨inB_n (by omega), fun y1 e1 => ?_⟩
  rw [nI_clamp (by omega), hh.2.1] at e1
  subst e1
  refine M_sizeA hst ha0 hr (by omega) ⟨_, rfl, fun c y4 e4 => ⟨fun _ => h66 y4 (by rw [e4]; exact zneg_l.1 (Int32.not_lt.mpr c)), fun c => absurd c (by decide)⟩, fun c y4 e4 => ⟨fun _ => h66 y4 (by rw [e4]; exact zneg_l.2 (Int32.not_le.mp c)), fun c => absurd c (by decide)⟩⟩
end ME
