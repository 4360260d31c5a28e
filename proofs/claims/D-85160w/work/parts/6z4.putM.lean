/-! THE MODEL: names, and N [E] = E -/
def mIx (D tg : Nat) : Nat := 14 * (D - 1) + tg - 8
def mgK (s : MS) (D tg : Nat) : Int32 := if tg < 8 then s.2.2.1 128 tg else s.2.2.1 134 (mIx D tg)
def mgV (s : MS) (D tg : Nat) : Int32 := if tg < 8 then s.2.2.1 129 tg else s.2.2.1 135 (mIx D tg)
def mst (s : MS) (D tg : Nat) (k v : Int32) : MS := if tg < 8 then sA (sA s 128 tg k) 129 tg v else sA (sA s 134 (mIx D tg) k) 135 (mIx D tg) v
theorem nI_ix {D tg : Nat} (hD : 1 ≤ D) (ht : 8 ≤ tg) : 14 * (nI D - 1) + nI tg - 8 = nI (mIx D tg) := by
  rw [nI_p1 (by omega), show (14 : Int32) = nI 14 from rfl, pk_mul, nI_add, show (8 : Int32) = nI 8 from rfl, pk_sub (by omega)]
  rfl
section MN
variable {l : Launch} {E : EN} {w : MO} {d : Nat} {s s0 : MS} {Q : Option Value → MS → Prop} {b n md b1 D tg : Nat}
theorem M_kindOf (hst : l.stackTraces = false) (hD : s.1 130 = nI D) (hD1 : 1 ≤ D) (hD2 : D ≤ 10) (ht : tg < 22) (hQ : Q (some (.int (mgK s D tg))) s) : EvM l E w d MX10_kindOf [.ref w.1, .int (nI tg)] s Q := by
  refine eX10_kindOf hst ?_
  rw [hD]
  refine pk_le 8 tg (fun c => ?_) (fun c => ?_) rfl rfl
  · have e : mgK s D tg = s.2.2.1 134 (mIx D tg) := if_neg (by omega)
    rw [e] at hQ
    rw [nI_ix hD1 c, nI_clamp (by unfold mIx; omega)]
    exact ⟨inB_n (by unfold mIx; omega), hQ⟩
  · have e : mgK s D tg = s.2.2.1 128 tg := if_pos c
    rw [e] at hQ
    rw [nI_clamp (by omega)]
    exact ⟨inB_n c, hQ⟩
theorem M_valueOf (hst : l.stackTraces = false) (hD : s.1 130 = nI D) (hD1 : 1 ≤ D) (hD2 : D ≤ 10) (ht : tg < 22) (hQ : Q (some (.int (mgV s D tg))) s) : EvM l E w d MX10_valueOf [.ref w.1, .int (nI tg)] s Q := by
  refine eX10_valueOf hst ?_
  rw [hD]
  refine pk_le 8 tg (fun c => ?_) (fun c => ?_) rfl rfl
  · have e : mgV s D tg = s.2.2.1 135 (mIx D tg) := if_neg (by omega)
    rw [e] at hQ
    rw [nI_ix hD1 c, nI_clamp (by unfold mIx; omega)]
    exact ⟨inB_n (by unfold mIx; omega), hQ⟩
  · have e : mgV s D tg = s.2.2.1 129 tg := if_pos c
    rw [e] at hQ
    rw [nI_clamp (by omega)]
    exact ⟨inB_n c, hQ⟩
theorem M_store (hst : l.stackTraces = false) {k v : Int32} (hD : s.1 130 = nI D) (hD1 : 1 ≤ D) (hD2 : D ≤ 10) (ht : tg < 22) (hQ : Q none (mst s D tg k v)) : EvM l E w d MX10_store [.ref w.1, .int (nI tg), .int k, .int v] s Q := by
  refine eX10_store hst ?_
  rw [hD]
  refine pk_le 8 tg (fun c => ?_) (fun c => ?_) rfl rfl
  · have e : mst s D tg k v = sA (sA s 134 (mIx D tg) k) 135 (mIx D tg) v := if_neg (by omega)
    rw [e] at hQ
    rw [nI_ix hD1 c, nI_clamp (by unfold mIx; omega)]
    exact ⟨inB_n (by unfold mIx; omega), inB_n (by unfold mIx; omega), hQ⟩
  · have e : mst s D tg k v = sA (sA s 128 tg k) 129 tg v := if_pos c
    rw [e] at hQ
    rw [nI_clamp (by omega)]
    exact ⟨inB_n c, inB_n c, hQ⟩
/-- what has come of N [E] = E: a trouble, or the new thing, which is stored -/
def mput (b n md D tg : Nat) (r : Nat ⊕ Th) (s s' : MS) : Prop := match r with
  | .inl k => mop b n md (.inl k) s s'
  | .inr t => if 3000 < md + zm t then mop b n md (.inr t) s s' else ∃ s1 b' p, mfr J1 b n s s1 ∧ b ≤ b' ∧ b' ≤ b + zm t ∧ s1.1 105 = nI b' ∧ s1.1 119 = nI (md + zm t) ∧ s1.1 123 = 0 ∧ s1.1 124 = s.1 124 ∧ rmT (s1.2.2.1 104) b' true t p 0 ∧ s1.1 108 = nI n ∧ s' = mst s1 D tg 1 (nI p)
theorem mop.sp1 {k : Nat} {s' : MS} {v : Int32} (h : mop b n md (.inl k) s0 s') : mop b n md (.inl k) s0 (sI s' 108 v) := ⟨h.1.trans (mfr.sI J1 b n s' 108 v), h.2⟩
theorem mop.sp2 {t : Th} {s' : MS} {v : Int32} (h : mop b n md (.inr t) s0 s') (c : 3000 < md + zm t) (hk : ¬ zk t = 0) : mop b n md (.inr t) s0 (sI s' 108 v) := by
  obtain ⟨h1, h2, b', h3, h4, h5, h6⟩ := h
  rw [if_pos ⟨c, hk⟩] at h6
  refine ⟨h1.trans (mfr.sI J1 b n s' 108 v), h2, b', h3, h4, h5, ?_⟩
  rw [if_pos ⟨c, hk⟩]
  exact h6
theorem getD_set (L : List Th) (k j : Nat) (e : Th) (hj : j < L.length) : (L.set k e).getD j (zI 0) = if j = k then e else L.getD j (zI 0) := by
  rw [getD_lt (l := L.set k e) _ (by rw [List.length_set]; exact hj), List.getElem_set]
  by_cases h : k = j
  · rw [if_pos h, if_pos h.symm]
  · rw [if_neg h, if_neg (fun z => h z.symm), getD_lt _ hj]
/-- the last part: the thing with another part -/
theorem M_put433 (hst : l.stackTraces = false) (hC : MCtx b n md s0) {x e : Th} {p k : Nat} {ke ve : Int32} (hr : rmT (s0.2.2.1 104) b true x p 0) (wx : ZW x) (we : ZW e) (hk : k < zn x) (hk1 : zk x = 1 → zk e = 0) (hk2 : zk x = 2 → zk e = 1) (hD : s0.1 130 = nI D) (hD1 : 1 ≤ D) (hD2 : D ≤ 10) (ht : tg < 22) (hb1 : b1 ≤ b + 300)
    (hc : zgt (zof (zk x) ((ze x).set k e)) = false → b1 + 2 + (if zk x = 3 then 2 * ((ze x).set k e).length else ((ze x).set k e).length) ≤ b + zm (zof (zk x) ((ze x).set k e))) (hQ : ∀ s', mput b n md D tg (zmk (zof (zk x) ((ze x).set k e))) s0 s' → Q none s') :
    ∀ m j (s : MS), j + m = zn x → rmV (s.2.2.1 104) b1 ke ve e → MAcc b n s0 b1 (((ze x).set k e).take j) s → ExM l E w (d + 4) MX10_putAt 433 [some (.ref w.1), none, none, some (.int (nI tg)), none, some (.int (nI n)), some (.int (nI p)), some (.int (nI (zk x))), none, some (.int (nI k)), some (.int ke), some (.int ve), some (.int (nI j)), none, none] [] s Q := by
  have hh := rmT_head hr
  have kx := zk_le x
  have hn := hC.2.1
  have hb := hC.1
  have hze := zn_ze x
  have h64 := zw_zn wx
  have hk0 : ¬ zk (zof (zk x) ((ze x).set k e)) = 0 := by
    have : zk x = 1 ∨ zk x = 2 ∨ zk x = 3 := by omega
    rcases this with h | h | h <;> rw [h]
    · show ¬ 1 = 0; decide
    · show ¬ 2 = 0; decide
    · show ¬ 3 = 0; decide
  have hls : ((ze x).set k e).length = zn x := by rw [List.length_set]; exact hze.symm
  intro m
  induction m with
  | zero =>
    intro j s hj hv hA
    have hj : j = zn x := hj
    rw [List.take_of_length_le (by omega)] at hA
    refine vX10_putAt_433 (M_sizeA hst hA hr (by omega) ⟨_, rfl, pk_le (zn x) j (fun _ => ?_) (fun c => by omega) rfl rfl⟩)
    have hmem : ∀ t ∈ (ze x).set k e, t = e ∨ ∃ i, i < zn x ∧ t = zel x i := by
      intro t ht
      rcases List.mem_or_eq_of_mem_set ht with ht | ht
      · obtain ⟨i, hi, e1⟩ := List.getElem_of_mem ht
        exact Or.inr ⟨i, by omega, by rw [← e1]; exact (getD_lt _ hi).symm⟩
      · exact Or.inl ht
    refine M_bmop hst hA (by omega) (fun c t ht => ?_) (fun c t ht => ?_) (fun t ht => ?_) (by omega) (by omega) hC.2.2.1 hC.2.2.2.1 hC.2.2.2.2 hc hb1 (fun s3 q => ⟨rfl, ?_⟩)
    · rcases hmem t ht with rfl | ⟨i, hi, rfl⟩
      · exact hk1 c
      · exact (zel_kind hi).1 c
    · rcases hmem t ht with rfl | ⟨i, hi, rfl⟩
      · exact hk2 c
      · exact (zel_kind hi).2 c
    · rcases hmem t ht with rfl | ⟨i, hi, rfl⟩
      · exact we
      · exact zw_zel wx i
    · unfold zmk at q hQ
      by_cases hg : zgt (zof (zk x) ((ze x).set k e)) = true
      · rw [if_pos hg] at q hQ
        have h123 : s3.1 123 = nI 2 := q.2.2.1
        refine ⟨fun _ => hQ _ (mop.sp1 q), fun c => absurd c (by rw [h123]; decide)⟩
      · rw [if_neg hg] at q hQ
        by_cases c3 : 3000 < md + zm (zof (zk x) ((ze x).set k e))
        · have h6 := q.2.2
          obtain ⟨b', h3, h4, h5, h7⟩ := h6
          rw [if_pos ⟨c3, hk0⟩] at h7
          refine ⟨fun _ => hQ _ ?_, fun c => absurd c (by rw [h7.1]; decide)⟩
          show (if 3000 < md + zm _ then _ else _)
          rw [if_pos c3]
          exact mop.sp2 q c3 hk0
        · obtain ⟨h1, h2, b', h3, h4, h5, h7⟩ := q
          rw [if_neg (fun z => c3 z.1)] at h7
          obtain ⟨h8, h9, h10⟩ := h7
          refine ⟨fun c => absurd h8 c, fun _ => ⟨inB_n (by omega), ?_⟩⟩
          have hv3 := h10.2.2.2.2 0 (by show 0 < 1; decide)
          rw [Nat.add_zero] at hv3
          have hv3 : rmV (s3.2.2.1 104) b' (s3.2.2.1 106 n) (s3.2.2.1 107 n) (zof (zk x) ((ze x).set k e)) := hv3
          obtain ⟨_, u, eu, hu⟩ := hv3.thing hk0
          rw [nI_clamp (by omega), eu]
          refine M_store hst (D := D) ((h1.1 130 (by decide)).trans hD) hD1 hD2 ht ⟨rfl, hQ _ ?_⟩
          show (if 3000 < md + zm _ then _ else _)
          rw [if_neg c3]
          exact ⟨sI s3 108 (nI n), b', u, h1.trans (mfr.sI J1 b n s3 108 _), h3, h4, h5, h2, h8, h9, hu, rfl, rfl⟩
  | succ m ih =>
    intro j s hj hv hA
    have hl : (((ze x).set k e).take j).length = j := by rw [List.length_take, hls]; omega
    have hts := take_succ_getD ((ze x).set k e) (zI 0) j (by omega)
    rw [getD_set _ _ _ _ (by omega)] at hts
    refine vX10_putAt_433 (M_sizeA hst hA hr (by omega) ⟨_, rfl, pk_le (zn x) j (fun c => by omega) (fun _ => bn_eq j k (fun c => ?_) (fun c => ?_) rfl rfl) rfl rfl⟩)
    · rw [if_neg c] at hts
      refine M_element hst (hA.rep hr) (by omega) (by omega) (by rw [hA.sp, hl]) (by omega) (fun k' v' hkv => ⟨rfl, ?_⟩)
      rw [nI_1]
      refine ih (j + 1) _ (by omega) (by rw [psh_h]; exact hv) ?_
      rw [hts]
      have := hA.push hkv (by omega)
      rw [hl] at this
      exact this
    · rw [if_pos c] at hts
      refine M_push hst (by rw [hA.sp, hl]) (by omega) ⟨rfl, ?_⟩
      rw [nI_1]
      refine ih (j + 1) _ (by omega) (by rw [psh_h]; exact hv) ?_
      rw [hts]
      have := hA.push hv (by omega)
      rw [hl] at this
      exact this
end MN
