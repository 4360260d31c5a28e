theorem nI_s2 (n : Nat) : nI (n + 2) - 2 = nI n := by
  have := pk_sub (a := n + 2) (b := 2) (by omega)
  rw [Nat.add_sub_cancel] at this
  exact this
theorem MOk.two {b n md : Nat} {x y : Th} {s : MS} (hi : MOk b n md [x, y] s) : s.1 108 = nI (n + 2) ∧ rmV (s.2.2.1 104) b (s.2.2.1 106 n) (s.2.2.1 107 n) x ∧ rmV (s.2.2.1 104) b (s.2.2.1 106 (n + 1)) (s.2.2.1 107 (n + 1)) y ∧ ZW x ∧ ZW y :=
  ⟨hi.1.2.2.2.1, hi.1.2.2.2.2 0 (by show 0 < 2; decide), hi.1.2.2.2.2 1 (by show 1 < 2; decide), hi.2.2.2.2.2.2 x (by simp), hi.2.2.2.2.2.2 y (by simp)⟩
theorem MOk.one {b n md : Nat} {x : Th} {s : MS} (hi : MOk b n md [x] s) : s.1 108 = nI (n + 1) ∧ rmV (s.2.2.1 104) b (s.2.2.1 106 n) (s.2.2.1 107 n) x ∧ ZW x :=
  ⟨hi.1.2.2.2.1, hi.1.2.2.2.2 0 (by show 0 < 1; decide), hi.2.2.2.2.2.2 x (by simp)⟩
theorem zw_zm {t : Th} (h : ZW t) : zm t ≤ 300 := by
  rcases zcases h with ⟨v, rfl⟩ | ⟨a, rfl, g1⟩ | ⟨a, rfl, g1, g2, g3⟩ | ⟨tx, rfl, g1, g2, g3, g4⟩
  · exact Nat.zero_le _
  · show 4 + a.length ≤ 300; omega
  · show 4 + 4 * a.length + zis a ≤ 300; omega
  · show 4 + 2 * (zl (zsp tx)).length ≤ 300
    rw [zl_zsp]; omega
theorem zw_zel {t : Th} (h : ZW t) (i : Nat) : ZW (zel t i) := by
  unfold zel
  by_cases hi : i < (ze t).length
  · have hm := getD_mem (zI 0) hi
    rcases zcases h with ⟨v, rfl⟩ | ⟨a, rfl, g1⟩ | ⟨a, rfl, g1, g2, g3⟩ | ⟨tx, rfl, g1, g2, g3, g4⟩
    · exact absurd hi (Nat.not_lt_zero i)
    · obtain ⟨v, _, e⟩ := List.mem_map.mp hm
      rw [← e]; exact trivial
    · obtain ⟨r, hr, e⟩ := List.mem_map.mp hm
      rw [← e]; exact g3 r hr
    · rw [zl_zP] at hm ⊢
      exact g4 _ hm
  · rw [List.getD, List.getElem?_eq_none (by omega)]; exact trivial
theorem zixs_some {l : List Int32} {n : Nat} (h : ∀ v ∈ l, ¬ v < 0 ∧ v.toNatClampNeg < n) : zixs l n = some (l.map Int32.toNatClampNeg) := by
  induction l with
  | nil => rfl
  | cons a r ih =>
    have h1 := h a List.mem_cons_self
    have h2 := ih fun v hv => h v (List.mem_cons_of_mem _ hv)
    show (match zix a n, zixs r n with | some a, some b => some (a :: b) | _, _ => none) = _
    rw [h2, show zix a n = some a.toNatClampNeg by unfold zix; rw [if_neg h1.1, if_pos h1.2]]
    rfl
theorem zixs_none {l : List Int32} {n : Nat} (h : ∃ v ∈ l, zix v n = none) : zixs l n = none := by
  induction l with
  | nil => obtain ⟨v, hv, _⟩ := h; cases hv
  | cons a r ih =>
    show (match zix a n, zixs r n with | some a, some b => some (a :: b) | _, _ => none) = none
    obtain ⟨v, hv, e⟩ := h
    rcases List.mem_cons.mp hv with rfl | hv
    · rw [e]
    · rw [ih ⟨v, hv, e⟩]
      cases zix a n <;> rfl
theorem zindex_i {x i : Th} (c0 : ¬ (zk x = 0 ∨ 1 < zk i)) (ci : zk i = 0) : (∀ k, zix (zv i) (zn x) = some k → zindex x i = .inr (zel x k)) ∧ (zix (zv i) (zn x) = none → zindex x i = .inl 5) := by
  unfold zindex
  rw [if_neg c0, if_pos ci]
  exact ⟨fun k h => by rw [h], fun h => by rw [h]⟩
theorem zindex_r {x i : Th} (c0 : ¬ (zk x = 0 ∨ 1 < zk i)) (ci : ¬ zk i = 0) : (∀ ks, zixs (zr i) (zn x) = some ks → zindex x i = zmk (zof (zk x) (ks.map (zel x)))) ∧ (zixs (zr i) (zn x) = none → zindex x i = .inl 5) := by
  unfold zindex
  rw [if_neg c0, if_neg ci]
  exact ⟨fun k h => by rw [h], fun h => by rw [h]⟩
section MO4
variable {l : Launch} {E : EN} {w : MO} {d : Nat} {s : MS} {Q : Option Value → MS → Prop}
/-- a thing that was there is given: the end of an order -/
theorem M_gmop (hst : l.stackTraces = false) {b n md q : Nat} {t : Th} {s0 : MS} (hf : mfr J0 b n s0 s) (h105 : s.1 105 = nI b) (h108 : s.1 108 = nI n) (k : rmT (s.2.2.1 104) b true t q 0) (ht : ZW t) (hbl : 154240 ≤ b) (hb : b ≤ 157600) (hn : n ≤ 8350) (hmd : s0.1 119 = nI md) (hm3 : md ≤ 3000) (h0 : s0.1 123 = 0) (hQ : ∀ s', mop b n md (.inr t) s0 s' → Q none s') : EvM l E w (d + 2) MX10_gives [.ref w.1, .int (nI q)] s Q := by
  have hz := zw_zm ht
  have hk0 := (rmT_head k).1
  refine M_gives hst k (by omega) h108 (by omega) ((hf.1 119 (by decide)).trans hmd) hm3 (by omega) ((hf.1 123 (by decide)).trans h0) (fun c => hQ _ ⟨?_, rfl, b, Nat.le_refl b, by omega, h105, ?_⟩) (fun c => hQ _ ⟨?_, rfl, b, Nat.le_refl b, by omega, h105, ?_⟩)
  · exact (hf.mono (J' := J1)).trans ((mfr.sI J1 b n _ 119 _).trans (psh_fr J1 b _ _ _ (Nat.le_refl n)))
  · rw [if_neg (by omega)]
    refine ⟨(hf.1 123 (by decide)).trans h0, hf.1 124 (by decide), h105, by omega, by show n + 1 ≤ 8900; omega, rfl, fun i hi => ?_⟩
    have hi : i = 0 := Nat.lt_one_iff.mp hi
    subst hi
    rw [Nat.add_zero, psh_k, psh_v, psh_h, if_pos rfl, if_pos rfl]
    exact Or.inr ⟨hk0, rfl, q, rfl, k⟩
  · exact (hf.mono (J' := J1)).trans ((((mfr.sI J1 b n _ 119 _).trans (mfr.sI J1 b n _ 123 _)).trans (mfr.sI J1 b n _ 124 _)).trans (psh_fr J1 b _ _ _ (Nat.le_refl n)))
  · rw [if_pos ⟨c, hk0⟩]
    exact ⟨rfl, hf.1 127 (by decide)⟩
theorem M_index (hst : l.stackTraces = false) {b n md : Nat} {x i : Th} (hi : MOk b n md [x, i] s) (hQ : ∀ s', mop b n md (zindex x i) s s' → Q none s') : EvM l E w (d + 4) MX10_index [.ref w.1] s Q := by
  have ha := hi.acc
  obtain ⟨m4, hx, hy, wx, wy⟩ := hi.two
  obtain ⟨⟨m1, m2, m3, _, _⟩, hb, hn, hmd, hm3, h0, _⟩ := hi
  have zx := zk_le x
  have zi := zk_le i
  refine eX10_index hst ?_
  rw [m4, nI_s2]
  refine M_kindAt hst hx (by omega) (by omega) ⟨_, rfl, ?_⟩
  rw [m4, nI_pred]
  refine M_kindAt hst hy (by omega) (by omega) ⟨_, rfl, fun y5 e5 => ?_⟩
  rw [m4, nI_s2] at e5
  subst e5
  rw [nI_1, nI_clamp (by omega), nI_clamp (by omega), m4, nI_s2]
  refine ⟨inB_n (by omega), fun y6 e6 => ⟨inB_n (by omega), fun y7 e7 => ?_⟩⟩
  subst e6 e7
  by_cases c0 : zk x = 0 ∨ 1 < zk i
  · have hz : zindex x i = .inl 3 := if_pos c0
    rw [hz] at hQ
    have fin : EvM l E w (d + 3) MX10_trouble [.ref w.1, .int 3, .int (s.1 127)] (sI s 108 (nI n)) (fun r s8 => r = none ∧ Q none s8) := M_tmop hst ha.1 m1 (Nat.le_refl b) (by omega) hmd h0 rfl rfl (fun s' q => ⟨rfl, hQ s' q⟩)
    exact pk_eq (zk x) 0 (fun _ => fin) (fun c => pk_le (zk i) 1 (fun c2 => by omega) (fun _ => fin) rfl rfl) rfl rfl
  · have hx0 : ¬ zk x = 0 := fun z => c0 (Or.inl z)
    obtain ⟨-, p, ep, hr⟩ := hx.thing hx0
    have hh := rmT_head hr
    have hsz : zn x < 200000 := by omega
    rw [ep]
    refine pk_eq (zk x) 0 (fun c => absurd c hx0) (fun _ => pk_le (zk i) 1 (fun _ => ?_) (fun c => by omega) rfl rfl) rfl rfl
    refine bn_eq (zk i) 0 (fun ci => ?_) (fun ci => ?_) rfl rfl
    · -- a row of places
      have hi1 : zk i = 1 := by omega
      obtain ⟨-, pi, epi, hri⟩ := hy.thing ci
      rw [epi]
      have ei := zk1 hi1
      have wi : (zr i).length ≤ 64 := by rw [ei] at wy; exact wy
      have hzi := zindex_r c0 ci
      rw [ei] at hri
      revert hzi hri wi
      generalize zr i = a
      intro hri wi hzi
      refine M_sizeA hst ha hri (by omega) ⟨_, rfl, ?_⟩
      have e1 : nI (zk i) = 1 := by rw [hi1]; rfl
      rw [e1]
      -- all places are asked
      have main : ∀ m j, j + m = a.length → (∀ v ∈ a.take j, ¬ v < 0 ∧ v.toNatClampNeg < zn x) → ExM l E w (d + 4) MX10_index 93 [some (.ref w.1), some (.int (nI (zk x))), some (.int 1), some (.int (nI n)), some (.int (nI p)), some (.int (nI pi)), some (.int (nI a.length)), some (.int (nI j)), none] [] (sI s 108 (nI n)) Q := by
        intro m
        induction m with
        | zero =>
          intro j hj hall
          have hj : j = a.length := hj
          subst hj
          rw [List.take_length] at hall
          rw [hzi.1 _ (zixs_some hall)] at hQ
          refine vX10_index_93 (pk_le a.length a.length (fun _ => ⟨fun _ => ?_, fun c => absurd c (by decide)⟩) (fun c => by omega) rfl rfl)
          have put : ∀ m j (s' : MS), j + m = a.length → MAcc b n s b (((a.take j).map Int32.toNatClampNeg).map (zel x)) s' → ExM l E w (d + 4) MX10_index 196 [some (.ref w.1), some (.int (nI (zk x))), none, some (.int (nI n)), some (.int (nI p)), some (.int (nI pi)), some (.int (nI a.length)), some (.int (nI j)), none] [] s' Q := by
            intro m
            induction m with
            | zero =>
              intro j s' hj hA
              have hj : j = a.length := hj
              subst hj
              rw [List.take_length] at hA
              refine vX10_index_196 (pk_le a.length a.length (fun _ => ?_) (fun c => by omega) rfl rfl)
              refine M_bm0 hst hA (by omega) (fun c v hv => ?_) (fun c v hv => ?_) (fun v hv => ?_) hb (by omega) hmd hm3 h0 (fun s' q => ⟨rfl, hQ s' q⟩)
              · obtain ⟨k, hk, rfl⟩ := List.mem_map.mp hv
                obtain ⟨v0, hv0, rfl⟩ := List.mem_map.mp hk
                exact (rmT_rowAt c hr (hall v0 hv0).2).2.2
              · obtain ⟨k, hk, rfl⟩ := List.mem_map.mp hv
                obtain ⟨v0, hv0, rfl⟩ := List.mem_map.mp hk
                obtain ⟨_, _, _, _, q⟩ := rmT_tabAt c hr (hall v0 hv0).2
                exact q
              · obtain ⟨k, hk, rfl⟩ := List.mem_map.mp hv
                exact zw_zel wx k
            | succ m ih =>
              intro j s' hj hA
              obtain ⟨r1, r2⟩ := hA.rowAt hri (show j < a.length by omega)
              have hv := hall _ (getD_mem 0 (show j < a.length by omega))
              refine vX10_index_196 (pk_le a.length j (fun c => by omega) (fun _ => ?_) rfl rfl)
              rw [nI_l2, nI_add, nI_clamp (by omega), r2]
              have hln : (((a.take j).map Int32.toNatClampNeg).map (zel x)).length = j := by rw [List.length_map, List.length_map, List.length_take]; omega
              have hsp := hA.sp
              rw [hln] at hsp
              obtain ⟨z, hz1, hz2⟩ := nI_of hv.1
              have hz3 : (a.getD j 0).toNatClampNeg = z := by rw [hz2]; exact nI_clamp hz1
              rw [hz3] at hv
              rw [hz2]
              refine ⟨inB_n (by omega), M_element hst (hA.rep hr) (by omega) hv.2 hsp (by omega) (fun k v hkv => ⟨rfl, ?_⟩)⟩
              rw [nI_1]
              refine ih (j + 1) _ (by omega) ?_
              have := hA.push hkv (by rw [hln]; omega)
              rw [hln] at this
              rw [take_succ_getD a 0 j (by omega), List.map_append, List.map_append]
              show MAcc b n s b (_ ++ [zel x (a.getD j 0).toNatClampNeg]) _
              rw [hz3]
              exact this
          exact put a.length 0 _ (by omega) ha
        | succ m ih =>
          intro j hj hall
          obtain ⟨r1, r2⟩ := ha.rowAt hri (show j < a.length by omega)
          have hmem := getD_mem (0 : Int32) (show j < a.length by omega)
          refine vX10_index_93 (pk_le a.length j (fun c => by omega) (fun _ => ⟨fun _ => ?_, fun c => absurd c (by decide)⟩) rfl rfl)
          rw [nI_l2, nI_add, nI_clamp (by omega), r2]
          refine ⟨inB_n (by omega), fun y ey => ?_⟩
          rw [← ey] at hmem
          have bad : zix y (zn x) = none → ∀ s', mop b n md (.inl 5) s s' → Q none s' := by
            intro hz
            rw [← hzi.2 (zixs_none ⟨y, hmem, hz⟩)]; exact hQ
          refine ⟨fun c => ?_, fun c => ?_⟩
          · exact M_tmop hst ha.1 m1 (Nat.le_refl b) (by omega) hmd h0 rfl rfl (fun s' q => ⟨rfl, bad (if_pos c) s' q⟩)
          · obtain ⟨z, hz1, hz2⟩ := nI_of c
            have hz3 : y.toNatClampNeg = z := by rw [hz2]; exact nI_clamp hz1
            refine M_sizeA hst ha hr (by omega) ⟨_, rfl, ?_⟩
            refine pk_lt z (zn x) (fun c2 => ?_) (fun c2 => ?_) hz2 rfl hz1
            · rw [nI_1]
              refine ih (j + 1) (by omega) (fun v hv => ?_)
              rw [take_succ_getD a 0 j (by omega), ← ey] at hv
              rcases List.mem_append.mp hv with hv | hv
              · exact hall v hv
              · rw [List.mem_singleton.mp hv, hz3]
                exact ⟨c, c2⟩
            · exact M_tmop hst ha.1 m1 (Nat.le_refl b) (by omega) hmd h0 rfl rfl (fun s' q => ⟨rfl, bad (by unfold zix; rw [if_neg c, hz3, if_neg (by omega)]) s' q⟩)
      exact main a.length 0 (by omega) (fun v hv => by cases hv)
    · -- one place
      have ei := zk0 ci
      have hzi := zindex_i c0 ci
      rw [ei] at hy
      rw [hy.int.2]
      revert hzi
      generalize zv i = e
      intro hzi
      have e1 : nI (zk i) = 0 := by rw [ci]; rfl
      rw [e1]
      refine vX10_index_93 (pk_le 1 0 (fun c => by omega) (fun _ => ⟨fun c => absurd rfl c, fun _ => ⟨fun c => ?_, fun c => ?_⟩⟩) rfl rfl)
      · have hzi := hzi.2 (if_pos c)
        exact M_tmop hst ha.1 m1 (Nat.le_refl b) (by omega) hmd h0 rfl rfl (fun s' q => ⟨rfl, hQ s' (by rw [hzi]; exact q)⟩)
      · obtain ⟨z, hz1, hz2⟩ := nI_of c
        have hz3 : e.toNatClampNeg = z := by rw [hz2]; exact nI_clamp hz1
        refine M_sizeA hst ha hr (by omega) ⟨_, rfl, ?_⟩
        refine pk_lt z (zn x) (fun c2 => ?_) (fun c2 => ?_) hz2 rfl hz1
        · have hzi := hzi.1 z (by unfold zix; rw [if_neg c, hz3, if_pos c2])
          rw [hzi] at hQ
          refine vX10_index_93 (pk_le 1 1 (fun _ => ⟨fun c => absurd rfl c, fun _ => ?_⟩) (fun c => by omega) rfl rfl)
          rw [hz2]
          refine M_element hst (ha.rep hr) (by omega) c2 rfl (by omega) (fun k v hkv => ⟨rfl, ?_⟩)
          rw [nI_clamp (by omega), psh_k, psh_v, if_pos rfl, if_pos rfl]
          have hA := ha.push hkv (by show n + 0 < 8900; omega)
          refine ⟨inB_n (by omega), fun c3 => ⟨inB_n (by omega), ?_⟩, fun c3 => ?_⟩
          · have hk0 : ¬ zk (zel x z) = 0 := by
              rcases hkv with ⟨_, q, _⟩ | ⟨q, _⟩
              · exact absurd q c3
              · exact q
            obtain ⟨-, q, rfl, hq⟩ := hkv.thing hk0
            exact M_gmop hst (s0 := s) (hA.1.trans (mfr.sI J0 b n _ 108 _)) hA.2.2.1 rfl hq (zw_zel wx z) hA.2.2.2.1.1 hb hn hmd hm3 h0 (fun s' q => ⟨rfl, hQ s' q⟩)
          · have hk0 : zk (zel x z) = 0 := by
              rcases hkv with ⟨q, _⟩ | ⟨_, q, _⟩
              · exact q
              · rw [q] at c3; exact absurd c3 (by decide)
            refine hQ _ ?_
            rw [zk0 hk0] at hA ⊢
            exact MAcc.mopI hA rfl hmd h0
        · have hzi := hzi.2 (by unfold zix; rw [if_neg c, hz3, if_neg (by omega)])
          exact M_tmop hst ha.1 m1 (Nat.le_refl b) (by omega) hmd h0 rfl rfl (fun s' q => ⟨rfl, hQ s' (by rw [hzi]; exact q)⟩)
end MO4
