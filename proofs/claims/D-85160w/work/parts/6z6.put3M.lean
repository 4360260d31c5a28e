/-! THE MODEL: N [E] [E] = E -/
theorem zput2_bad {x i j v : Th} (h : zk x ≠ 2 ∨ zk i ≠ 0 ∨ zk j ≠ 0 ∨ zk v ≠ 0) : zput2 x i j v = .inl (3, 0) := by unfold zput2; rw [if_pos h]
theorem zput2_no {x i j v : Th} (h : ¬ (zk x ≠ 2 ∨ zk i ≠ 0 ∨ zk j ≠ 0 ∨ zk v ≠ 0)) (hz : zix (zv i) (zn x) = none) : zput2 x i j v = .inl (5, 0) := by unfold zput2; rw [if_neg h, hz]
theorem zput2_no2 {x i j v : Th} {k : Nat} (h : ¬ (zk x ≠ 2 ∨ zk i ≠ 0 ∨ zk j ≠ 0 ∨ zk v ≠ 0)) (hz : zix (zv i) (zn x) = some k) (hz2 : zix (zv j) (zr (zel x k)).length = none) : zput2 x i j v = .inl (5, 1) := by
  unfold zput2
  rw [if_neg h, hz]
  dsimp only
  rw [hz2]
def zpu2 (x i j v : Th) : Nat ⊕ Th := match zput2 x i j v with
  | .inl (e, _) => .inl e
  | .inr t => .inr t
theorem zput2_ok {x i j v : Th} {k q : Nat} (h : ¬ (zk x ≠ 2 ∨ zk i ≠ 0 ∨ zk j ≠ 0 ∨ zk v ≠ 0)) (hz : zix (zv i) (zn x) = some k) (hz2 : zix (zv j) (zr (zel x k)).length = some q) : zpu2 x i j v = zmk (zT ((zt x).set k ((zr (zel x k)).set q (zv v)))) ∧ zput2 x i j v ≠ .inl (5, 1) := by
  unfold zpu2 zput2
  rw [if_neg h, hz]
  dsimp only
  rw [hz2]
  dsimp only
  cases zmk (zT ((zt x).set k ((zr (zel x k)).set q (zv v)))) with
  | inl e => exact ⟨rfl, fun c => by have := Sum.inl.inj c; have := congrArg Prod.snd this; exact absurd this (by show ¬ (0 : Nat) = 1; decide)⟩
  | inr t => exact ⟨rfl, fun c => by cases c⟩
theorem zis_mem {r : List Int32} : ∀ {a : List (List Int32)}, r ∈ a → r.length ≤ zis a
  | x :: a, h => by
    rw [zis_cons]
    rcases List.mem_cons.mp h with rfl | h
    · omega
    · have := zis_mem h; omega
theorem zof2_set (a : List (List Int32)) (k : Nat) (r : List Int32) : zof 2 ((ze (zT a)).set k (zR r)) = zT (a.set k r) := by
  have e : (ze (zT a)).set k (zR r) = (a.set k r).map zR := by
    show (a.map zR).set k (zR r) = _
    rw [List.map_set]
  rw [e]
  show zT (((a.set k r).map zR).map zr) = _
  rw [List.map_map]
  congr 3
  exact List.map_id _
theorem MOk.three {b n md : Nat} {x y z : Th} {s : MS} (hi : MOk b n md [x, y, z] s) : s.1 108 = nI (n + 3) ∧ rmV (s.2.2.1 104) b (s.2.2.1 106 n) (s.2.2.1 107 n) x ∧ rmV (s.2.2.1 104) b (s.2.2.1 106 (n + 1)) (s.2.2.1 107 (n + 1)) y ∧ rmV (s.2.2.1 104) b (s.2.2.1 106 (n + 2)) (s.2.2.1 107 (n + 2)) z ∧ ZW x ∧ ZW y ∧ ZW z :=
  ⟨hi.1.2.2.2.1, hi.1.2.2.2.2 0 (by show 0 < 3; decide), hi.1.2.2.2.2 1 (by show 1 < 3; decide), hi.1.2.2.2.2 2 (by show 2 < 3; decide), hi.2.2.2.2.2.2 x (by simp), hi.2.2.2.2.2.2 y (by simp), hi.2.2.2.2.2.2 z (by simp)⟩
theorem nI_s3 (n : Nat) : nI (n + 3) - 3 = nI n := by
  rw [show (3 : Int32) = nI 3 from rfl, pk_sub (by omega)]
  rfl
theorem rmV.k0 {h : Nat → Int32} {b : Nat} {k v : Int32} {t : Th} (q : rmV h b k v t) : k = 0 ↔ zk t = 0 := by
  rcases q with ⟨a1, a2, _⟩ | ⟨a1, a2, _⟩
  · exact ⟨fun _ => a1, fun _ => a2⟩
  · exact ⟨fun c => absurd (c.symm.trans a2) (by decide), fun c => absurd c a1⟩
section MP
variable {l : Launch} {E : EN} {w : MO} {d : Nat} {s s0 : MS} {Q : Option Value → MS → Prop} {b n md b1 D tg : Nat}
/-- the new row -/
theorem M_put360 (hst : l.stackTraces = false) (hC : MCtx b n md s0) {a : List (List Int32)} {p k q pr : Nat} {vv : Int32} (hr : rmT (s0.2.2.1 104) b true (zT a) p 0) (wx : ZW (zT a)) (hk : k < a.length) (hrr : rmT (s0.2.2.1 104) b true (zR (a.getD k [])) pr 0) (hq : q < (a.getD k []).length) (hD : s0.1 130 = nI D) (hD1 : 1 ≤ D) (hD2 : D ≤ 10) (ht : tg < 22)
    (hQ : ∀ s', mput b n md D tg (zmk (zT (a.set k ((a.getD k []).set q vv)))) s0 s' → Q none s') :
    ∀ m j (s : MS), j + m = (a.getD k []).length → MAcc b n s0 b ((((a.getD k []).set q vv).take j).map zI) s → ExM l E w (d + 4) MX10_putAt 360 [some (.ref w.1), none, none, some (.int (nI tg)), none, some (.int (nI n)), some (.int (nI p)), some (.int (nI 2)), none, some (.int (nI k)), none, some (.int vv), some (.int (nI pr)), some (.int (nI q)), some (.int (nI j))] [] s Q := by
  have hn := hC.2.1
  have hb := hC.1
  have hh := rmT_head hrr
  have h64 : (a.getD k []).length ≤ 64 := by
    have := wx.2.2 (a.getD k []) (by rw [getD_lt [] hk]; exact List.getElem_mem hk)
    exact this
  have hlr : ((a.getD k []).set q vv).length = (a.getD k []).length := List.length_set
  have hsz : zn (zR (a.getD k [])) = (a.getD k []).length := rfl
  have hbb : pr + 2 + (a.getD k []).length ≤ b := (show rmI (s0.2.2.1 104) b pr (a.getD k []) from hrr).1.1
  intro m
  induction m with
  | zero =>
    intro j s hj hA
    have hj : j = (a.getD k []).length := hj
    rw [List.take_of_length_le (by omega)] at hA
    refine vX10_putAt_360 (M_sizeA hst hA hrr (by omega) ⟨_, rfl, pk_le _ j (fun _ => ?_) (fun c => by omega) rfl rfl (by omega)⟩)
    refine MAcc.rowOf hst (xs := []) (is := (a.getD k []).set q vv) hA (by omega) (by show n + 0 < 8900; omega) (fun s3 q3 => ⟨rfl, inB_n (by show n + 0 < 9000; omega), fun y4 e4 => ?_⟩)
    have e4 : y4 = s3.2.2.1 107 n := by rw [e4]; show s3.2.2.1 107 (nI (n + 0)).toNatClampNeg = _; rw [nI_clamp (by omega)]; rfl
    have hv := q3.2.2.2.2.2.2 0 (by show 0 < 1; decide)
    have hv : rmV (s3.2.2.1 104) (b + 2 + ((a.getD k []).set q vv).length) (s3.2.2.1 106 n) (s3.2.2.1 107 n) (zR ((a.getD k []).set q vv)) := hv
    obtain ⟨hv1, u, hv2, hv3⟩ := hv.thing (by show ¬ 1 = 0; decide)
    have hw : ZW (zR ((a.getD k []).set q vv)) := by show ((a.getD k []).set q vv).length ≤ 64; omega
    have hz2 := zof2_set a k ((a.getD k []).set q vv)
    refine M_put433 hst hC (b1 := b + 2 + ((a.getD k []).set q vv).length) (x := zT a) (e := zR ((a.getD k []).set q vv)) hr wx hw hk (fun c => absurd c (by show ¬ 2 = 1; decide)) (fun _ => rfl) hD hD1 hD2 ht (by omega) (fun _ => ?_) ?_ a.length 0 _ (by show 0 + a.length = a.length; omega) (by rw [e4, hv2]; exact Or.inr ⟨(by show ¬ 1 = 0; decide), rfl, u, rfl, hv3⟩) ?_
    · have h1 := zis_mem (List.mem_set hk ((a.getD k []).set q vv))
      have e1 : ((ze (zT a)).set k (zR ((a.getD k []).set q vv))).length = a.length := by rw [List.length_set]; exact List.length_map ..
      have e2 : (if zk (zT a) = 3 then 2 * ((ze (zT a)).set k (zR ((a.getD k []).set q vv))).length else ((ze (zT a)).set k (zR ((a.getD k []).set q vv))).length) = a.length := by rw [if_neg (by show ¬ 2 = 3; decide), e1]
      have e3 : zm (zof (zk (zT a)) ((ze (zT a)).set k (zR ((a.getD k []).set q vv)))) = 4 + 4 * a.length + zis (a.set k ((a.getD k []).set q vv)) := by
        show zm (zof 2 _) = _
        rw [hz2]
        show 4 + 4 * (a.set k _).length + zis _ = _
        rw [List.length_set]
      rw [e2, e3]
      omega
    · show ∀ s', mput b n md D tg (zmk (zof 2 _)) s0 s' → _
      rw [hz2]
      exact hQ
    · rw [List.take_zero]
      refine ⟨q3.1.trans (mfr.sI J0 b n s3 108 _), q3.2.1, q3.2.2.1, q3.2.2.2.1, by show n + 0 ≤ 8900; omega, rfl, fun i hi => absurd hi (Nat.not_lt_zero i)⟩
  | succ m ih =>
    intro j s hj hA
    have hl : ((((a.getD k []).set q vv).take j).map zI).length = j := by rw [List.length_map, List.length_take, hlr]; omega
    have hts := take_succ_getD ((a.getD k []).set q vv) 0 j (by omega)
    have hg : ((a.getD k []).set q vv).getD j 0 = if j = q then vv else (a.getD k []).getD j 0 := by
      rw [getD_lt (l := (a.getD k []).set q vv) _ (by omega), List.getElem_set]
      by_cases h : q = j
      · rw [if_pos h, if_pos h.symm]
      · rw [if_neg h, if_neg (fun z => h z.symm)]
        exact (getD_lt _ (by omega)).symm
    rw [hg] at hts
    refine vX10_putAt_360 (M_sizeA hst hA hrr (by omega) ⟨_, rfl, pk_le _ j (fun c => by omega) (fun _ => bn_eq j q (fun c => ?_) (fun c => ?_) rfl rfl) rfl rfl (by omega)⟩)
    · rw [if_neg c] at hts
      obtain ⟨g1, g2⟩ := MAcc.rowAt (i := j) hA hrr (by omega)
      rw [nI_l2, nI_add, nI_clamp (by omega), g2]
      refine ⟨inB_n (by omega), M_push hst (by rw [hA.sp, hl]) (by omega) ⟨rfl, ?_⟩⟩
      rw [nI_1]
      refine ih (j + 1) _ (by omega) ?_
      rw [hts, List.map_append]
      have := hA.pushI ((a.getD k []).getD j 0) (by omega)
      rw [hl] at this
      exact this
    · rw [if_pos c] at hts
      refine M_push hst (by rw [hA.sp, hl]) (by omega) ⟨rfl, ?_⟩
      rw [nI_1]
      refine ih (j + 1) _ (by omega) ?_
      rw [hts, List.map_append]
      have := hA.pushI vv (by omega)
      rw [hl] at this
      exact this
theorem M_putAt2 (hst : l.stackTraces = false) {kk : Nat} {i j v : Th} {o : Option Th} (hkk : kk < 8000) (h81 : s.2.2.1 81 kk = nI tg) (h82 : ¬ s.2.2.1 82 kk = -1) (hi : MOk b n md [i, j, v] s) (hD : s.1 130 = nI D) (hD1 : 1 ≤ D) (hD2 : D ≤ 10) (ht : tg < 22) (ho : mVar (s.2.2.1 104) b (mgK s D tg) (mgV s D tg) o)
    (h7 : o = none → ∀ s', mfr J1 b n s s' → s'.1 105 = nI b → s'.1 119 = nI md → s'.1 123 = 7 → s'.1 124 = s.2.2.1 83 kk → Q none s')
    (h5 : ∀ x, o = some x → zput2 x i j v = .inl (5, 1) → ∀ s', mfr J1 b n s s' → s'.1 105 = nI b → s'.1 119 = nI md → s'.1 123 = 5 → s'.1 124 = s.2.2.1 82 kk → Q none s')
    (hQ : ∀ x, o = some x → zput2 x i j v ≠ .inl (5, 1) → ∀ s', mput b n md D tg (zpu2 x i j v) s s' → Q none s') : EvM l E w (d + 5) MX10_putAt [.ref w.1, .int (nI kk)] s Q := by
  have ha := hi.acc
  have hC := hi.ctx
  have hn := hC.2.1
  have hb := hC.1
  obtain ⟨m4, hx, hy, hz, wi, wj, wv⟩ := hi.three
  refine eX10_putAt hst ?_
  rw [nI_clamp (by omega), h81, m4, nI_s3]
  have e31 : nI (n + 3) - 1 = nI (n + 2) := nI_pred (n + 2)
  rw [e31]
  refine ⟨inB_n hkk, fun c => absurd c h82, fun _ => ⟨inB_n hkk, fun y1 e1 y2 e2 y3 e3 => ?_⟩⟩
  subst e1 e2 e3
  have hD' : (sI s 108 (nI n)).1 130 = nI D := hD
  refine M_kindOf hst hD' hD1 hD2 ht ⟨_, rfl, ?_⟩
  have eK : mgK (sI s 108 (nI n)) D tg = mgK s D tg := rfl
  have eV : mgV (sI s 108 (nI n)) D tg = mgV s D tg := rfl
  rw [eK]
  cases o with
  | none =>
    have ho : mgK s D tg = 2 := ho
    rw [ho]
    refine ⟨fun c => absurd rfl c, fun _ => ⟨inB_n hkk, M_trouble hst hC.2.2.2.2 ⟨rfl, h7 rfl _ ?_ hi.1.1 hC.2.2.1 rfl ?_⟩⟩⟩
    · exact (ha.1.mono (J' := J1)).trans ((mfr.sI J1 b n _ 123 _).trans (mfr.sI J1 b n _ 124 _))
    · rfl
  | some x =>
    obtain ⟨hv, wx⟩ := ho
    have hQ := hQ x rfl
    have h5 := h5 x rfl
    have kx := zk_le x
    have k01 : ¬ mgK s D tg = 2 := by
      rcases hv with ⟨_, q, _⟩ | ⟨_, q, _⟩ <;> rw [q] <;> decide
    refine ⟨fun _ => M_valueOf hst hD' hD1 hD2 ht ⟨_, rfl, M_kindOf hst hD' hD1 hD2 ht ⟨_, rfl, ?_⟩⟩, fun c => absurd c k01⟩
    rw [eK, eV]
    have ne3 : zput2 x i j v = .inl (3, 0) → zput2 x i j v ≠ .inl (5, 1) := fun e c => by
      rw [e] at c
      have := congrArg Prod.fst (Sum.inl.inj c)
      exact absurd this (by show ¬ (3 : Nat) = 5; decide)
    have ne5 : zput2 x i j v = .inl (5, 0) → zput2 x i j v ≠ .inl (5, 1) := fun e c => by
      rw [e] at c
      have := congrArg Prod.snd (Sum.inl.inj c)
      exact absurd this (by show ¬ (0 : Nat) = 1; decide)
    have hbad : (zk x ≠ 2 ∨ zk i ≠ 0 ∨ zk j ≠ 0 ∨ zk v ≠ 0) → ∀ a6 a7 : Int32, ExM l E w (d + 5) MX10_putAt 236 [some (.ref w.1), some (.int (nI kk)), some (.int 1), some (.int (nI tg)), some (.int (nI (n + 2))), some (.int (nI n)), some (.int a6), some (.int a7), some (.int 0), none, none, none, none, none, none] [] (sI s 108 (nI n)) Q := by
      intro hb3 a6 a7
      refine vX10_putAt_236 ⟨fun c => absurd rfl c, fun _ => K_tr hst hC ha (by omega) 3 rfl (fun s' q => hQ (ne3 (zput2_bad hb3)) s' ?_)⟩
      unfold zpu2
      rw [zput2_bad hb3]
      exact q
    by_cases x0 : zk x = 0
    · have hk0 : mgK s D tg = 0 := by
        rcases hv with ⟨_, q, _⟩ | ⟨q, _⟩
        · exact q
        · exact absurd x0 q
      rw [hk0]
      refine ⟨fun c => absurd rfl c, fun _ => ?_⟩
      refine vX10_putAt_128 ⟨fun c => absurd c (by decide), fun _ => ⟨fun _ => hbad (Or.inl (by omega)) _ _, fun c => absurd rfl c⟩⟩
    · obtain ⟨hk1, p, ep, hr⟩ := hv.thing x0
      have hh := rmT_head hr
      rw [hk1, ep]
      refine ⟨fun _ => ⟨inB_n (by omega), fun y10 e10 => ?_⟩, fun c => absurd c (by decide)⟩
      have e10 : y10 = nI (zk x) := by rw [e10, nI_clamp (by omega)]; exact hh.2.1
      subst e10
      refine pk_le (zk x) 0 (fun c => by omega) (fun _ => ⟨inB_n (by omega), ?_⟩) rfl rfl
      rw [nI_clamp (by omega)]
      have e106 : (sI s 108 (nI n)).2.2.1 106 n = s.2.2.1 106 n := rfl
      rw [e106, hx.k0]
      refine ⟨fun c => vX10_putAt_128 ⟨fun c => absurd c (by decide), fun _ => ⟨fun _ => hbad (Or.inr (Or.inl c)) _ _, fun c => absurd rfl c⟩⟩, fun i0 => vX10_putAt_128 ⟨fun c => absurd c (by decide), fun _ => ⟨fun c => absurd c (by decide), fun _ => ?_⟩⟩⟩
      refine bn_eq (zk x) 2 (fun c => hbad (Or.inl c) _ _) (fun k2 => ?_) rfl rfl
      rw [nI_1, nI_clamp (by omega), nI_clamp (by omega)]
      have e106 : (sI s 108 (nI n)).2.2.1 106 (n + 1) = s.2.2.1 106 (n + 1) := rfl
      have e106' : (sI s 108 (nI n)).2.2.1 106 (n + 2) = s.2.2.1 106 (n + 2) := rfl
      rw [e106, e106', hy.k0, hz.k0]
      refine ⟨inB_n (by omega), fun c => hbad (Or.inr (Or.inr (Or.inl c))) _ _, fun j0 => ⟨inB_n (by omega), fun c => hbad (Or.inr (Or.inr (Or.inr c))) _ _, fun v0 => ?_⟩⟩
      have hgood : ¬ (zk x ≠ 2 ∨ zk i ≠ 0 ∨ zk j ≠ 0 ∨ zk v ≠ 0) := by omega
      have hvi : s.2.2.1 107 n = zv i := by rw [zk0 i0] at hx; exact (rmV.int hx).2
      have hvj : s.2.2.1 107 (n + 1) = zv j := by rw [zk0 j0] at hy; exact (rmV.int hy).2
      have hvv : s.2.2.1 107 (n + 2) = zv v := by rw [zk0 v0] at hz; exact (rmV.int hz).2
      obtain ⟨a, rfl⟩ : ∃ a, x = zT a := by
        match x, k2 with
        | .leaf (.inr (.inr a)), _ => exact ⟨a, rfl⟩
      refine vX10_putAt_236 ⟨fun _ => ⟨inB_n (by omega), fun y1 e1 => ?_⟩, fun c => absurd c (by decide)⟩
      have e1 : y1 = zv i := by rw [e1, nI_clamp (by omega)]; exact hvi
      have bad : zix (zv i) (zn (zT a)) = none → ∀ s', mop b n md (.inl 5) s s' → Q none s' := by
        intro hz s' q
        refine hQ (ne5 (zput2_no hgood hz)) s' ?_
        unfold zpu2
        rw [zput2_no hgood hz]
        exact q
      have h64 := zw_zn wx
      refine ⟨fun c => ?_, fun c => ?_⟩
      · rw [e1] at c
        exact K_tr hst hC ha (by omega) 5 rfl (bad (if_pos c))
      · obtain ⟨z, hz1, hz2⟩ := nI_of c
        rw [e1] at hz2 c
        have hz3 : (zv i).toNatClampNeg = z := by rw [hz2]; exact nI_clamp hz1
        refine M_sizeA hst ha hr (by omega) ⟨_, rfl, pk_lt z (zn (zT a)) (fun c2 => ?_) (fun c2 => ?_) (by rw [e1, hz2]) rfl hz1⟩
        · have hzk : zix (zv i) (zn (zT a)) = some z := by unfold zix; rw [if_neg c, hz3, if_pos c2]
          have c2 : z < a.length := c2
          refine ⟨inB_n (by omega), fun y5 e5 => ⟨inB_n (by omega), fun y6 e6 => ⟨fun c => absurd c (by decide), fun _ => ?_⟩⟩⟩
          have e6 : y6 = zv v := by rw [e6, nI_clamp (by omega)]; exact hvv
          rw [e1, hz2, e6]
          have eel : zel (zT a) z = zR (a.getD z []) := getD_map zR a [] (zI 0) c2
          refine M_partA hst ha hr (by omega) c2 (by show 1 < 2; decide) (by rw [eel]; show ¬ 1 = 0; decide) (fun pr hpr => ⟨_, rfl, ?_⟩)
          rw [eel] at hpr
          have hhr := rmT_head hpr
          have hrl : (a.getD z []).length ≤ 64 := wx.2.2 (a.getD z []) (by rw [getD_lt [] c2]; exact List.getElem_mem c2)
          rw [nI_1]
          refine ⟨inB_n (by omega), fun y9 e9 => ?_⟩
          have e9 : y9 = zv j := by rw [e9, nI_clamp (by omega)]; exact hvj
          have t5 : zix (zv j) (a.getD z []).length = none → (inB (nI kk) 8000 ∧ EvM l E w (d + 4) MX10_trouble [.ref w.1, .int 5, .int ((sI s 108 (nI n)).2.2.1 82 (nI kk).toNatClampNeg)] (sI s 108 (nI n)) (fun r s' => r = none ∧ Q none s')) := by
            intro hno
            refine ⟨inB_n hkk, M_trouble hst hC.2.2.2.2 ⟨rfl, h5 ?_ _ ?_ hi.1.1 hC.2.2.1 rfl ?_⟩⟩
            · exact zput2_no2 hgood hzk (by rw [eel]; exact hno)
            · exact (ha.1.mono (J' := J1)).trans ((mfr.sI J1 b n _ 123 _).trans (mfr.sI J1 b n _ 124 _))
            · show s.2.2.1 82 (nI kk).toNatClampNeg = _
              rw [nI_clamp (by omega)]
          refine ⟨fun c => ?_, fun c => ?_⟩
          · rw [e9] at c
            exact t5 (if_pos c)
          · obtain ⟨q, hq1, hq2⟩ := nI_of c
            rw [e9] at hq2 c
            have hq3 : (zv j).toNatClampNeg = q := by rw [hq2]; exact nI_clamp hq1
            refine M_sizeA hst ha hpr (by omega) ⟨_, rfl, pk_lt q (a.getD z []).length (fun c3 => ?_) (fun c3 => ?_) (by rw [e9, hq2]) rfl hq1 (by omega)⟩
            · have hok := zput2_ok (v := v) hgood hzk (show zix (zv j) (zr (zel (zT a) z)).length = some q by rw [eel]; show zix (zv j) (a.getD z []).length = _; unfold zix; rw [if_neg c, hq3, if_pos c3])
              have hQ := hQ hok.2
              rw [hok.1, eel] at hQ
              rw [e9, hq2]
              exact M_put360 hst hC hr wx c2 hpr c3 hD hD1 hD2 ht hQ (a.getD z []).length 0 _ (by omega) (by rw [List.take_zero]; exact ha)
            · exact t5 (by unfold zix; rw [if_neg c, hq3, if_neg (by omega)])
        · exact K_tr hst hC ha (by omega) 5 rfl (bad (by unfold zix; rw [if_neg c, hz3, if_neg (by omega)]))
end MP
