theorem zd_snoc (x : Th) : ∀ l : List Th, zd (zsp (l ++ [x])) = max (zd (zsp l)) (zd x)
  | [] => by rw [List.nil_append, zd_cons]; show max (zd x) 0 = max 0 (zd x); omega
  | y :: r => by rw [List.cons_append, zd_cons, zd_cons, zd_snoc x r]; omega
theorem sum_snoc (x : Th) (l : List Th) : ((l ++ [x]).map zb).sum = (l.map zb).sum + zb x := by
  rw [List.map_append, List.sum_append]; show _ + (zb x + 0) = _; omega
theorem zm_small {k : Nat} {vs : List Th} (hk : k = 1 ∨ k = 2 ∨ k = 3) (hg : zgt (zof k vs) = false) : zm (zof k vs) ≤ 300 ∧ vs.length ≤ 64 := by
  rcases hk with rfl | rfl | rfl
  · have hg : decide (64 < (vs.map zv).length) = false := hg
    have := of_decide_eq_false hg
    rw [List.length_map] at this
    refine ⟨?_, by omega⟩
    show 4 + (vs.map zv).length ≤ 300
    rw [List.length_map]; omega
  · have hg : (decide (20 < (vs.map zr).length) || decide (200 < zis (vs.map zr))) = false := hg
    rw [Bool.or_eq_false_iff] at hg
    have h1 := of_decide_eq_false hg.1
    have h2 := of_decide_eq_false hg.2
    rw [List.length_map] at h1
    refine ⟨?_, by omega⟩
    show 4 + 4 * (vs.map zr).length + zis (vs.map zr) ≤ 300
    rw [List.length_map]; omega
  · have hg : (decide (20 < (zl (zsp vs)).length) || decide (4 < zd (zP vs)) || decide (600 < zb (zP vs))) = false := hg
    rw [Bool.or_eq_false_iff, Bool.or_eq_false_iff, zl_zsp] at hg
    have h1 := of_decide_eq_false hg.1.1
    refine ⟨?_, by omega⟩
    show 4 + 2 * (zl (zsp vs)).length ≤ 300
    rw [zl_zsp]; omega
theorem b_36 {a5 a4 : Int32} {E0 E1 : Prop} (g z : Nat) (h1 : (g ≠ 0 ∨ 200 < z) → E1) (h0 : g = 0 → z ≤ 200 → E0) (e5 : a5 = nI g := by rfl) (e4 : a4 = nI z := by rfl) (h5 : g < 2 ^ 31 := by omega) (h4 : z < 2 ^ 31 := by omega) : (¬ a5 = 0 → E1) ∧ (a5 = 0 → ((a4 ≤ 200 → E0) ∧ (¬ a4 ≤ 200 → E1))) :=
  bn_eq g 0 (fun c => h1 (Or.inl c)) (fun c => pk_le z 200 (fun c2 => h0 c c2) (fun c2 => h1 (Or.inr c2)) e4 rfl) e5 rfl
theorem MPl.frg {b n : Nat} {vs : List Th} {s s' : MS} (h : MPl b n vs s) (hg : mfg JG s s') : MPl b n vs s' := by
  obtain ⟨m1, m2, m3, m4, m5⟩ := h
  refine ⟨(hg.1 105 (by decide)).trans m1, m2, m3, (hg.1 108 (by decide)).trans m4, fun i hi => ?_⟩
  rw [hg.2.2.2 104 (by decide), hg.2.2.2 106 (by decide), hg.2.2.2 107 (by decide)]
  exact m5 i hi
theorem mopB.frg {b n md k : Nat} {vs : List Th} {s s1 s' : MS} (hg : mfg JG s s1) (h : mopB b n md k vs s1 s') : mopB b n md k vs s s' := by
  obtain ⟨h1, b', h2, h3, h4, h5⟩ := h
  refine ⟨(hg.fr b n).trans h1, b', h2, h3, h4, ?_⟩
  rw [hg.1 127 (by decide), hg.1 124 (by decide)] at h5
  exact h5
section MV
variable {l : Launch} {E : EN} {w : MO} {d : Nat} {s : MS} {Q : Option Value → MS → Prop}
/-- the values on the pile from n on become a thing of a kind -/
theorem M_builds (hst : l.stackTraces = false) {b n md k : Nat} {vs : List Th} (hm : MPl b n vs s) (hk : k = 1 ∨ k = 2 ∨ k = 3) (h1 : k = 1 → ∀ v ∈ vs, zk v = 0) (h2 : k = 2 → ∀ v ∈ vs, zk v = 1) (h3 : ∀ v ∈ vs, ZW v) (hb : b + 2000 ≤ 160000) (hn8 : n < 8900)
    (hmd : s.1 119 = nI md) (hm3 : md ≤ 3000) (h0 : s.1 123 = 0) (hQ : ∀ s', mopB b n md k vs s s' → Q none s') : EvM l E w (d + 3) MX10_builds [.ref w.1, .int (nI k), .int (nI n)] s Q := by
  have hm' := hm
  obtain ⟨m1, m2, m3, m4, m5⟩ := hm'
  -- a trouble
  have hT : ∀ s1, mfg JG s s1 → zgt (zof k vs) = true → EvM l E w (d + 2) MX10_trouble [.ref w.1, .int 2, .int (s1.1 127)] s1 (fun r s1 => r = none ∧ Q none s1) := by
    intro s1 hg hz
    refine M_trouble hst ((hg.1 123 (by decide)).trans h0) ⟨rfl, hQ _ ⟨?_, b, Nat.le_refl b, by omega, (hg.1 105 (by decide)).trans m1, ?_⟩⟩
    · exact (hg.fr b n).trans ((mfr.sI J1 b n s1 123 _).trans (mfr.sI J1 b n _ 124 _))
    · rw [if_pos hz]
      exact ⟨(hg.1 119 (by decide)).trans hmd, rfl, hg.1 127 (by decide), rfl⟩
  -- no trouble
  have hB : ∀ s1, mfg JG s s1 → zgt (zof k vs) = false → EvM l E w (d + 2) MX10_begins [.ref w.1, .int (nI k), .int (nI vs.length)] s1 (fun r s3 => ∃ v4 : Int32, r = some (.int v4) ∧ ExM l E w (d + 3) MX10_builds 239 [some (.ref w.1), some (.int (nI k)), some (.int (nI n)), none, none, none, none, none, some (.int v4), some (.int (nI n))] [] s3 Q) := by
    intro s1 hg hz
    have hs := zm_small hk hz
    exact M_write hst (hm.frg hg) hk h1 h2 (by omega) hn8 ((hg.1 119 (by decide)).trans hmd) hm3 (by omega) ((hg.1 123 (by decide)).trans h0) hz (fun s' q => hQ s' (q.frg hg))
  have hsz : ∀ v ∈ vs, zk v = 1 → (zr v).length ≤ 64 := by
    intro v hv hv1
    have := h3 v hv
    rw [zk1 hv1] at this
    exact this
  -- from 101 on
  have h101 : ∀ g : Nat, (g = 0 ∨ g = 1) → (k = 1 → (g ≠ 0 ↔ 64 < vs.length)) → (k = 2 → (g ≠ 0 ↔ (20 < vs.length ∨ 200 < zis (vs.map zr)))) → (k = 3 → (g ≠ 0 ↔ 20 < vs.length)) → ExM l E w (d + 3) MX10_builds 101 [some (.ref w.1), some (.int (nI k)), some (.int (nI n)), some (.int (nI vs.length)), none, some (.int (nI g)), some (.int 0), some (.int 1), some (.int (nI n)), none] [] s Q := by
    intro g hg01 g1 g2 g3
    by_cases hk3 : k = 3
    · subst hk3
      have hgt : zgt (zof 3 vs) = (decide (20 < vs.length) || decide (4 < zd (zsp vs) + 1) || decide (600 < (vs.map zb).sum + 1)) := by
        show (decide (20 < (zl (zsp vs)).length) || decide (4 < zd (zP vs)) || decide (600 < zb (zP vs))) = _
        rw [zl_zsp, zd_zP, zb_zP]
      by_cases hgz : g = 0
      · have hle : vs.length ≤ 20 := by
          have hq : ¬ 20 < vs.length := fun z => (g3 rfl).mpr z hgz
          omega
        have main : ∀ m i (s1 : MS), i + m = vs.length → mfg JG s s1 → zd (zsp (vs.take i)) ≤ 4 → ((vs.take i).map zb).sum ≤ 600 * i → ExM l E w (d + 3) MX10_builds 101 [some (.ref w.1), some (.int (nI 3)), some (.int (nI n)), some (.int (nI vs.length)), none, some (.int (nI g)), some (.int (nI (zd (zsp (vs.take i))))), some (.int (nI (((vs.take i).map zb).sum + 1))), some (.int (nI (n + i))), none] [] s1 Q := by
          intro m
          induction m with
          | zero =>
            intro i s1 hi hg hd4 hs6
            have hi : i = vs.length := hi
            subst hi
            rw [List.take_length] at hd4 hs6 ⊢
            refine vX10_builds_101 ?_
            rw [hg.1 108 (by decide), m4]
            refine pk_le _ _ (fun _ => ?_) (fun c => by omega) rfl rfl
            refine b_fin g (zd (zsp vs)) ((vs.map zb).sum + 1) (fun c => hT s1 hg ?_) (fun _ c2 c3 => hB s1 hg ?_)
            · rw [hgt]
              rcases c with c | c | c
              · omega
              · rw [decide_eq_true (show 4 < zd (zsp vs) + 1 by omega)]; simp
              · rw [decide_eq_true (show 600 < (vs.map zb).sum + 1 by omega)]; simp
            · rw [hgt, decide_eq_false (by omega), decide_eq_false (by omega), decide_eq_false (by omega)]; rfl
          | succ m ih =>
            intro i s1 hi hg hd4 hs6
            have hx := h3 _ (getD_mem (zI 0) (show i < vs.length by omega))
            have hx4 : zd (vs.getD i (zI 0)) ≤ 4 ∧ zb (vs.getD i (zI 0)) ≤ 600 := by
              rcases zcases hx with ⟨v, e⟩ | ⟨a, e, h1⟩ | ⟨a, e, h1, h2, h3⟩ | ⟨tx, e, h1, h2, h3, h4⟩
              · rw [e]; exact ⟨Nat.zero_le _, by show 1 ≤ 600; omega⟩
              · rw [e]; exact ⟨Nat.zero_le _, by show 1 + a.length ≤ 600; omega⟩
              · rw [e]; exact ⟨Nat.zero_le _, by show 1 + a.length + zis a ≤ 600; omega⟩
              · rw [e, zd_zP, zb_zP]; exact ⟨by omega, h2⟩
            have ht := take_succ_getD vs (zI 0) i (by omega)
            have e1 : zd (zsp (vs.take (i + 1))) = max (zd (zsp (vs.take i))) (zd (vs.getD i (zI 0))) := by rw [ht, zd_snoc]
            have e2 : ((vs.take (i + 1)).map zb).sum = ((vs.take i).map zb).sum + zb (vs.getD i (zI 0)) := by rw [ht, sum_snoc]
            have hv := m5 i (by omega)
            refine vX10_builds_101 ?_
            rw [hg.1 108 (by decide), m4]
            refine pk_le _ _ (fun c => by omega) (fun _ => ⟨fun c => absurd rfl c, fun _ => bn_eq g 0 (fun c => absurd hgz c) (fun _ => ⟨inB_n (by omega), ?_⟩) rfl rfl⟩) rfl rfl
            rw [nI_clamp (by omega), hg.2.2.2 106 (by decide), hg.2.2.2 107 (by decide), nI_1 (n + i)]
            revert hx hx4 e1 e2 hv
            generalize vs.getD i (zI 0) = x
            intro hx hx4 e1 e2 hv
            have hg2 : mfg JG s (sI (sI s1 113 0) 114 1) := hg.trans ((mfg.sI JG s1 113 _).trans (mfg.sI JG _ 114 _))
            have e3 : n + i + 1 = n + (i + 1) := rfl
            rcases hv with ⟨a1, a2, a3⟩ | ⟨a1, a2, q, a3, a4⟩
            · have ex := zk0 a1
              have z1 : zd x = 0 := by rw [ex]; rfl
              have z2 : zb x = 1 := by rw [ex]; rfl
              refine ⟨fun _ => ⟨fun _ y ey => ?_, fun c => absurd (nI_pos' (by omega)) c⟩, fun c => absurd (a2.symm.trans c) (by decide)⟩
              have ey : y = nI (((vs.take (i + 1)).map zb).sum + 1) := by rw [ey, nI_1, e2, z2]
              have ed : zd (zsp (vs.take i)) = zd (zsp (vs.take (i + 1))) := by rw [e1, z1]; omega
              rw [ey, ed, e3]
              exact ih (i + 1) _ (by omega) hg2 (by omega) (by omega)
            · refine ⟨fun c => absurd a2 c, fun _ => ⟨inB_n (by omega), ?_⟩⟩
              rw [a3]
              refine M_measure hst hx (b := b) (by show rmT (s1.2.2.1 104) _ _ _ _ _; rw [hg.2.2.2 104 (by decide)]; exact a4) (by omega) (fun s2 q1 q2 q3 => ⟨rfl, ?_⟩)
              rw [q2, q3]
              refine pk_le (zd x) (zd (zsp (vs.take i))) (fun c y ey => ?_) (fun c y' ey' y ey => ?_) rfl rfl
              · have ey : y = nI (((vs.take (i + 1)).map zb).sum + 1) := by rw [ey, nI_add, e2]; congr 1; omega
                have ed : zd (zsp (vs.take i)) = zd (zsp (vs.take (i + 1))) := by rw [e1]; omega
                rw [ey, ed, e3]
                exact ih (i + 1) _ (by omega) (hg2.trans q1) (by omega) (by omega)
              · have ey : y = nI (((vs.take (i + 1)).map zb).sum + 1) := by rw [ey, nI_add, e2]; congr 1; omega
                have ed : y' = nI (zd (zsp (vs.take (i + 1)))) := by rw [ey', e1]; congr 1; omega
                rw [ey, ed, e3]
                exact ih (i + 1) _ (by omega) (hg2.trans q1) (by omega) (by omega)
        exact main vs.length 0 s (by omega) (mfg.rf JG s) (Nat.zero_le _) (Nat.le_refl 0)
      · have hgt1 : zgt (zof 3 vs) = true := by
          rw [hgt, decide_eq_true ((g3 rfl).mp hgz)]; rfl
        refine vX10_builds_101 ?_
        rw [m4]
        refine pk_le _ _ (fun _ => ?_) (fun _ => ⟨fun c => absurd rfl c, fun _ => ⟨fun _ => ?_, fun c => ?_⟩⟩) rfl rfl
        · exact b_fin g 0 1 (fun _ => hT s (mfg.rf JG s) hgt1) (fun c => absurd c hgz)
        · exact b_fin g 0 1 (fun _ => hT s (mfg.rf JG s) hgt1) (fun c => absurd c hgz)
        · rcases hg01 with rfl | rfl
          · exact absurd rfl hgz
          · exact absurd c (by decide)
    · have hgt : zgt (zof k vs) = true ↔ g ≠ 0 := by
        rcases hk with rfl | rfl | rfl
        · rw [g1 rfl]
          show decide (64 < (vs.map zv).length) = true ↔ _
          rw [List.length_map, decide_eq_true_eq]
        · rw [g2 rfl]
          show (decide (20 < (vs.map zr).length) || decide (200 < zis (vs.map zr))) = true ↔ _
          rw [List.length_map, Bool.or_eq_true, decide_eq_true_eq, decide_eq_true_eq]
        · exact absurd rfl hk3
      have kn : ¬ nI k = 3 := by rcases hk with rfl | rfl | rfl <;> first | decide | exact absurd rfl hk3
      have fin := b_fin (a5 := nI g) (a6 := 0) (a7 := 1) g 0 1 (fun c => hT s (mfg.rf JG s) (hgt.mpr (by omega))) (fun c _ _ => hB s (mfg.rf JG s) (by
        cases e : zgt (zof k vs) with
        | false => rfl
        | true => exact absurd c (hgt.mp e)))
      refine vX10_builds_101 ?_
      rw [m4]
      exact pk_le _ _ (fun _ => fin) (fun _ => ⟨fun _ => fin, fun c => absurd c kn⟩) rfl rfl
  -- from 36 on
  have h36 : ∀ g : Nat, (g = 0 ∨ g = 1) → (g ≠ 0 ↔ (if k = 1 then 64 else 20) < vs.length) → ExM l E w (d + 3) MX10_builds 36 [some (.ref w.1), some (.int (nI k)), some (.int (nI n)), some (.int (nI vs.length)), some (.int 0), some (.int (nI g)), some (.int (nI n)), none, none, none] [] s Q := by
    intro g hg01 hgg
    by_cases hk2 : k = 2
    · subst hk2
      rw [if_neg (by decide)] at hgg
      have hzl : ∀ i, i ≤ vs.length → zis ((vs.take i).map zr) ≤ 64 * i := by
        intro i
        induction i with
        | zero => intro _; exact Nat.le_refl 0
        | succ i ih =>
          intro hi
          rw [take_succ_getD vs (zI 0) i (by omega), List.map_append, zis_app]
          have := ih (by omega)
          have := hsz _ (getD_mem (zI 0) (show i < vs.length by omega)) (h2 rfl _ (getD_mem (zI 0) (by omega)))
          show _ + zis [zr (vs.getD i (zI 0))] ≤ _
          rw [zis_cons, zis_nil]; omega
      have main : ∀ m i, i + m = vs.length → ExM l E w (d + 3) MX10_builds 36 [some (.ref w.1), some (.int (nI 2)), some (.int (nI n)), some (.int (nI vs.length)), some (.int (nI (zis ((vs.take i).map zr)))), some (.int (nI g)), some (.int (nI (n + i))), none, none, none] [] s Q := by
        intro m
        induction m with
        | zero =>
          intro i hi
          have hi : i = vs.length := hi
          subst hi
          have := hzl vs.length (Nat.le_refl _)
          rw [List.take_length] at this ⊢
          refine vX10_builds_36 ?_
          rw [m4]
          refine pk_le _ _ (fun _ => ?_) (fun c => by omega) rfl rfl
          refine b_36 g (zis (vs.map zr)) (fun c => h101 1 (Or.inr rfl) (fun c => absurd c (by decide)) (fun _ => ⟨fun _ => ?_, fun _ => by decide⟩) (fun c => absurd c (by decide))) (fun c c2 => h101 0 (Or.inl rfl) (fun c => absurd c (by decide)) (fun _ => ⟨fun z => absurd rfl z, fun z => ?_⟩) (fun c => absurd c (by decide)))
          · rcases c with c | c
            · exact Or.inl (hgg.mp c)
            · exact Or.inr c
          · rcases z with z | z
            · exact absurd c (hgg.mpr z)
            · omega
        | succ m ih =>
          intro i hi
          have := hzl i (by omega)
          refine vX10_builds_36 ?_
          rw [m4]
          refine pk_le _ _ (fun c => by omega) (fun _ => ⟨fun c => absurd rfl c, fun _ => ⟨inB_n (by omega), ?_⟩⟩) rfl rfl
          rw [nI_clamp (by omega), nI_1]
          have hk1 := h2 rfl _ (getD_mem (zI 0) (show i < vs.length by omega))
          rcases m5 i (by omega) with ⟨a1, _⟩ | ⟨a1, a2, q, a3, a4⟩
          · omega
          · rw [a3]
            have hh := rmT_head a4
            refine M_sizeAt hst (by omega) hh.2.2.1 ⟨_, rfl, fun y ey => ?_⟩
            have ey : y = nI (zis ((vs.take (i + 1)).map zr)) := by
              rw [ey, nI_add, take_succ_getD vs (zI 0) i (by omega), List.map_append, zis_app]
              congr 1
              show _ = _ + zis [zr (vs.getD i (zI 0))]
              rw [zis_cons, zis_nil, zk1 hk1]; rfl
            rw [ey]
            exact ih (i + 1) (by omega)
      exact main vs.length 0 (by omega)
    · have kn : ¬ nI k = 2 := by rcases hk with rfl | rfl | rfl <;> first | decide | exact absurd rfl hk2
      have fin := b_36 (a5 := nI g) (a4 := 0) g 0 (fun c => h101 1 (Or.inr rfl) (fun c1 => ⟨fun _ => by rw [if_pos c1] at hgg; exact hgg.mp (by omega), fun _ => by decide⟩) (fun c => absurd c hk2) (fun c1 => ⟨fun _ => by rw [if_neg (by omega)] at hgg; exact hgg.mp (by omega), fun _ => by decide⟩))
        (fun c _ => h101 0 (Or.inl rfl) (fun c1 => ⟨fun z => absurd rfl z, fun z => by rw [if_pos c1] at hgg; exact absurd c (hgg.mpr z)⟩) (fun c => absurd c hk2) (fun c1 => ⟨fun z => absurd rfl z, fun z => by rw [if_neg (by omega)] at hgg; exact absurd c (hgg.mpr z)⟩))
      refine vX10_builds_36 ?_
      rw [m4]
      exact pk_le _ _ (fun _ => fin) (fun _ => ⟨fun _ => fin, fun c => absurd c kn⟩) rfl rfl
  refine eX10_builds hst fun y ey => ?_
  rw [m4, pk_sub (by omega), Nat.add_sub_cancel_left] at ey
  subst ey
  refine bn_eq k 1 (fun c => ?_) (fun c => ?_) rfl rfl
  · refine pk_le vs.length 20 (fun c2 => h36 0 (Or.inl rfl) ⟨fun z => absurd rfl z, fun z => ?_⟩) (fun c2 => h36 1 (Or.inr rfl) ⟨fun _ => ?_, fun _ => by decide⟩) rfl rfl
    · rw [if_neg c] at z; omega
    · rw [if_neg c]; exact c2
  · refine pk_le vs.length 64 (fun c2 => h36 0 (Or.inl rfl) ⟨fun z => absurd rfl z, fun z => ?_⟩) (fun c2 => h36 1 (Or.inr rfl) ⟨fun _ => ?_, fun _ => by decide⟩) rfl rfl
    · rw [if_pos c] at z; omega
    · rw [if_pos c]; exact c2
end MV
