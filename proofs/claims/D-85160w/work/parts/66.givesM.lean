/-! THE MODEL: what was made is given -/
section MV
variable {l : Launch} {E : EN} {w : MO} {d : Nat} {s : MS} {Q : Option Value → MS → Prop}
theorem M_gives (hst : l.stackTraces = false) {p b n md : Nat} {t : Th} (k : rmT (s.2.2.1 104) b true t p 0) (hb : b ≤ 166300) (hn : s.1 108 = nI n) (h9 : n < 9000) (hmd : s.1 119 = nI md) (hm3 : md ≤ 3000) (hz : zm t ≤ 100000) (h0 : s.1 123 = 0)
    (hok : md + zm t ≤ 3000 → Q none (psh (sI s 119 (nI (md + zm t))) n 1 (nI p))) (hbad : 3000 < md + zm t → Q none (psh (sI (sI (sI s 119 (nI (md + zm t))) 123 11) 124 (s.1 127)) n 1 (nI p))) : EvM l E w (d + 2) MX10_gives [.ref w.1, .int (nI p)] s Q := by
  refine eX10_gives hst (M_counts hst k hb ⟨_, rfl, ?_⟩)
  rw [hmd, nI_add]
  refine pk_le (md + zm t) 3000 (fun c => ?_) (fun c => ?_) rfl rfl
  · exact M_push hst hn h9 ⟨rfl, hok c⟩
  · refine M_trouble hst h0 ⟨rfl, ?_⟩
    exact M_push hst hn h9 ⟨rfl, hbad c⟩
/-- what has come of building -/
def mopB (b n md k : Nat) (vs : List Th) (s s' : MS) : Prop := mfr J1 b n s s' ∧ ∃ b', b ≤ b' ∧ b' ≤ b + 2 + (if k = 3 then 2 * vs.length else vs.length) ∧ s'.1 105 = nI b' ∧
  (if zgt (zof k vs) = true then s'.1 119 = nI md ∧ s'.1 123 = 2 ∧ s'.1 124 = s.1 127 ∧ b' = b
   else s'.1 119 = nI (md + zm (zof k vs)) ∧ (if 3000 < md + zm (zof k vs) then s'.1 123 = 11 ∧ s'.1 124 = s.1 127 else s'.1 123 = 0 ∧ s'.1 124 = s.1 124 ∧ MPl b' n [zof k vs] s'))
theorem b_fin {a5 a6 a7 : Int32} {T B : Prop} (g m z : Nat) (hT : (g ≠ 0 ∨ 3 < m ∨ 600 < z) → T) (hB : g = 0 → m ≤ 3 → z ≤ 600 → B) (e5 : a5 = nI g := by rfl) (e6 : a6 = nI m := by rfl) (e7 : a7 = nI z := by rfl) (h5 : g < 2 ^ 31 := by omega) (h6 : m < 2 ^ 31 := by omega) (h7 : z < 2 ^ 31 := by omega) :
    ((¬ a5 = 0 → T) ∧ (a5 = 0 → ((3 < a6 → T) ∧ (¬ 3 < a6 → ((a7 ≤ 600 → B) ∧ (¬ a7 ≤ 600 → T)))))) := by
  refine bn_eq g 0 (fun c => hT (Or.inl c)) (fun c => ?_) e5 rfl
  refine pk_lt 3 m (fun c => hT (Or.inr (Or.inl c))) (fun c2 => ?_) rfl e6
  exact pk_le z 600 (fun c3 => hB c c2 c3) (fun c3 => hT (Or.inr (Or.inr c3))) e7 rfl
/-- the cell of a value in a row, table or pack that lies at b -/
def celM (b : Nat) (k v : Int32) : Int32 := if k = 1 then v - nI b else v
/-- the last part: it is written down, and given -/
theorem M_write (hst : l.stackTraces = false) {b n md k : Nat} {vs : List Th} (hm : MPl b n vs s) (hk : k = 1 ∨ k = 2 ∨ k = 3) (h1 : k = 1 → ∀ v ∈ vs, zk v = 0) (h2 : k = 2 → ∀ v ∈ vs, zk v = 1) (hb : b + 2 + 2 * vs.length ≤ 160000) (hn8 : n < 8900)
    (hmd : s.1 119 = nI md) (hm3 : md ≤ 3000) (hz : zm (zof k vs) ≤ 100000) (h0 : s.1 123 = 0) (hg : zgt (zof k vs) = false) (hQ : ∀ s', mopB b n md k vs s s' → Q none s') :
    EvM l E w (d + 2) MX10_begins [.ref w.1, .int (nI k), .int (nI vs.length)] s (fun r s3 => ∃ v4 : Int32, r = some (.int v4) ∧ ExM l E w (d + 3) MX10_builds 239 [some (.ref w.1), some (.int (nI k)), some (.int (nI n)), none, none, none, none, none, some (.int v4), some (.int (nI n))] [] s3 Q) := by
  obtain ⟨m1, m2, m3, m4, m5⟩ := hm
  refine M_begins hst m1 (by omega) ⟨_, rfl, ?_⟩
  -- once all is written
  have fin : ∀ (s' : MS) (b' : Nat), b + 2 ≤ b' → b' ≤ b + 2 + (if k = 3 then 2 * vs.length else vs.length) → mfr J0 b (n + vs.length) s s' → s'.1 105 = nI b' → s'.1 108 = nI (n + vs.length) → rmT (s'.2.2.1 104) b' true (zof k vs) b 0 → EvM l E w (d + 2) MX10_gives [.ref w.1, .int (nI b)] (sI s' 108 (nI n)) (fun r s1 => r = none ∧ Q none s1) := by
    intro s' b' hb1 hb2 hf g105 g108 hr
    have hb3 : b' ≤ 160000 := by split at hb2 <;> omega
    have hk0 := (rmT_head hr).1
    have f1 : mfr J1 b n s (sI s' 108 (nI n)) := (hf.mono (J' := J1)).trans (mfr.sI J1 b n s' 108 _)
    have g119 : (sI s' 108 (nI n)).1 119 = nI md := (hf.1 119 (by decide)).trans hmd
    have g123 : (sI s' 108 (nI n)).1 123 = 0 := (hf.1 123 (by decide)).trans h0
    have g127 : (sI s' 108 (nI n)).1 127 = s.1 127 := hf.1 127 (by decide)
    have g124 : s'.1 124 = s.1 124 := hf.1 124 (by decide)
    refine M_gives hst hr (by omega) rfl (by omega) g119 hm3 hz g123 (fun c => ⟨rfl, hQ _ ⟨?_, b', by omega, hb2, g105, ?_⟩⟩) (fun c => ⟨rfl, hQ _ ⟨?_, b', by omega, hb2, g105, ?_⟩⟩)
    · exact f1.trans ((mfr.sI J1 b n _ 119 _).trans (psh_fr J1 b _ _ _ (Nat.le_refl n)))
    · rw [hg, if_neg (by decide), if_neg (by omega)]
      refine ⟨rfl, g123, g124, g105, by omega, by show n + 1 ≤ 8900; omega, rfl, fun i hi => ?_⟩
      have hi : i = 0 := Nat.lt_one_iff.mp hi
      subst hi
      rw [Nat.add_zero, psh_k, psh_v, psh_h, if_pos rfl, if_pos rfl]
      exact Or.inr ⟨hk0, rfl, b, rfl, hr⟩
    · exact f1.trans ((((mfr.sI J1 b n _ 119 _).trans (mfr.sI J1 b n _ 123 _)).trans (mfr.sI J1 b n _ 124 _)).trans (psh_fr J1 b _ _ _ (Nat.le_refl n)))
    · rw [hg, if_neg (by decide), if_pos c]
      exact ⟨rfl, rfl, g127⟩
  have hs2 : mfr J0 b (n + vs.length) s (sI (sA (sA s 104 b (nI k)) 104 (b + 1) (nI vs.length)) 105 (nI (b + 2))) := ((mfr.hA J0 s _ (Nat.le_refl _)).trans (mfr.hA J0 _ _ (by omega))).trans (mfr.sI J0 _ _ _ 105 _)
  have hb0 : (sI (sA (sA s 104 b (nI k)) 104 (b + 1) (nI vs.length)) 105 (nI (b + 2))).2.2.1 104 b = nI k := by
    show (if 104 = 104 ∧ b = b + 1 then _ else if 104 = 104 ∧ b = b then _ else _) = _
    rw [if_neg (by omega), if_pos ⟨rfl, rfl⟩]
  have hb1 : (sI (sA (sA s 104 b (nI k)) 104 (b + 1) (nI vs.length)) 105 (nI (b + 2))).2.2.1 104 (b + 1) = nI vs.length := by
    show (if 104 = 104 ∧ b + 1 = b + 1 then _ else _) = _
    rw [if_pos ⟨rfl, rfl⟩]
  have hmono : ∀ s' : MS, mfr J0 b (n + vs.length) s s' → ∀ b', b ≤ b' → ∀ i, i < vs.length → rmV (s'.2.2.1 104) b' (s.2.2.1 106 (n + i)) (s.2.2.1 107 (n + i)) (vs.getD i (zI 0)) := fun s' hf b' hb' i hi => rmV_mono hb' hf.2.2.2.1 (m5 i hi)
  by_cases hk3 : k = 3
  · subst hk3
    have main : ∀ m i (s' : MS), i + m = vs.length → mfr J0 b (n + vs.length) s s' → s'.1 105 = nI (b + 2 + 2 * i) → s'.1 108 = nI (n + vs.length) → s'.2.2.1 104 b = nI 3 → s'.2.2.1 104 (b + 1) = nI vs.length → (∀ j, j < i → s'.2.2.1 104 (b + 2 + 2 * j) = s.2.2.1 106 (n + j) ∧ s'.2.2.1 104 (b + 3 + 2 * j) = celM b (s.2.2.1 106 (n + j)) (s.2.2.1 107 (n + j))) → ExM l E w (d + 3) MX10_builds 239 [some (.ref w.1), some (.int (nI 3)), some (.int (nI n)), none, none, none, none, none, some (.int (nI b)), some (.int (nI (n + i)))] [] s' Q := by
      intro m
      induction m with
      | zero =>
        intro i s' hi hf g105 g108 gb gb1 gj
        have hi : i = vs.length := hi
        subst hi
        refine vX10_builds_239 ?_
        rw [g108]
        refine pk_le _ _ (fun _ => ?_) (fun c => by omega) rfl rfl
        refine fin s' _ (by omega) (by rw [if_pos rfl]; omega) hf g105 g108 ?_
        show rmT _ _ true (zP vs) b 0
        refine ⟨by rw [zl_zsp]; omega, gb, by rw [zl_zsp]; exact gb1, (rmT_spine _ b 0).mpr ?_⟩
        rw [zl_zsp]
        intro j hj
        rw [Nat.zero_add, (gj j hj).1, (gj j hj).2]
        rcases hmono s' hf (b + 2 + 2 * vs.length) (by omega) j hj with ⟨a1, a2, a3⟩ | ⟨a1, a2, q, a3, a4⟩
        · exact Or.inl ⟨a1, a2, by unfold celM; rw [a2, if_neg (by decide)]; exact a3⟩
        · exact Or.inr ⟨a1, a2, q, by unfold celM; rw [a2, if_pos rfl, a3], a4⟩
      | succ m ih =>
        intro i s' hi hf g105 g108 gb gb1 gj
        refine vX10_builds_239 ?_
        rw [g108, g105]
        refine pk_le _ _ (fun c => by omega) (fun _ => ⟨fun c => absurd rfl c, fun _ => ⟨inB_n (by omega), inB_n (by omega), inB_n (by omega), ?_⟩⟩) rfl rfl
        rw [nI_1, nI_1, nI_1, nI_clamp (by omega), nI_clamp (by omega), nI_clamp (by omega), (hf.2.2.2.2.1 (n + i) (by omega)).1, (hf.2.2.2.2.1 (n + i) (by omega)).2]
        have nx : ∀ c : Int32, c = celM b (s.2.2.1 106 (n + i)) (s.2.2.1 107 (n + i)) → ExM l E w (d + 3) MX10_builds 239 [some (.ref w.1), some (.int (nI 3)), some (.int (nI n)), none, none, none, none, none, some (.int (nI b)), some (.int (nI (n + i + 1)))] [] (sI (sA (sI (sA s' 104 (b + 2 + 2 * i) (s.2.2.1 106 (n + i))) 105 (nI (b + 2 + 2 * i + 1))) 104 (b + 2 + 2 * i + 1) c) 105 (nI (b + 2 + 2 * i + 1 + 1))) Q := by
          intro c ec
          refine ih (i + 1) _ (by omega) (hf.trans ((((mfr.hA J0 s' _ (by omega)).trans (mfr.sI J0 _ _ _ 105 _)).trans (mfr.hA J0 _ _ (by omega))).trans (mfr.sI J0 _ _ _ 105 _))) rfl g108 ?_ ?_ ?_
          · show (if 104 = 104 ∧ b = b + 2 + 2 * i + 1 then _ else if 104 = 104 ∧ b = b + 2 + 2 * i then _ else _) = _
            rw [if_neg (by omega), if_neg (by omega)]; exact gb
          · show (if 104 = 104 ∧ b + 1 = b + 2 + 2 * i + 1 then _ else if 104 = 104 ∧ b + 1 = b + 2 + 2 * i then _ else _) = _
            rw [if_neg (by omega), if_neg (by omega)]; exact gb1
          · intro j hj
            refine ⟨?_, ?_⟩
            · show (if 104 = 104 ∧ b + 2 + 2 * j = b + 2 + 2 * i + 1 then _ else if 104 = 104 ∧ b + 2 + 2 * j = b + 2 + 2 * i then _ else _) = _
              by_cases e : j = i
              · subst e; rw [if_neg (by omega), if_pos ⟨rfl, rfl⟩]
              · rw [if_neg (by omega), if_neg (by omega)]; exact (gj j (by omega)).1
            · show (if 104 = 104 ∧ b + 3 + 2 * j = b + 2 + 2 * i + 1 then _ else if 104 = 104 ∧ b + 3 + 2 * j = b + 2 + 2 * i then _ else _) = _
              by_cases e : j = i
              · subst e; rw [if_pos ⟨rfl, by omega⟩]; exact ec
              · rw [if_neg (by omega), if_neg (by omega)]; exact (gj j (by omega)).2
        refine ⟨fun c => ⟨inB_n (by omega), inB_n (by omega), nx _ ?_⟩, fun c => ⟨inB_n (by omega), inB_n (by omega), nx _ ?_⟩⟩
        · unfold celM; rw [if_neg c]
        · unfold celM; rw [if_pos c]
    exact main vs.length 0 _ (by omega) hs2 rfl m4 hb0 hb1 (fun j hj => absurd hj (Nat.not_lt_zero j))
  · have main : ∀ m i (s' : MS), i + m = vs.length → mfr J0 b (n + vs.length) s s' → s'.1 105 = nI (b + 2 + i) → s'.1 108 = nI (n + vs.length) → s'.2.2.1 104 b = nI k → s'.2.2.1 104 (b + 1) = nI vs.length → (∀ j, j < i → s'.2.2.1 104 (b + 2 + j) = celM b (s.2.2.1 106 (n + j)) (s.2.2.1 107 (n + j))) → ExM l E w (d + 3) MX10_builds 239 [some (.ref w.1), some (.int (nI k)), some (.int (nI n)), none, none, none, none, none, some (.int (nI b)), some (.int (nI (n + i)))] [] s' Q := by
      intro m
      induction m with
      | zero =>
        intro i s' hi hf g105 g108 gb gb1 gj
        have hi : i = vs.length := hi
        subst hi
        refine vX10_builds_239 ?_
        rw [g108]
        refine pk_le _ _ (fun _ => ?_) (fun c => by omega) rfl rfl
        refine fin s' _ (by omega) (by rw [if_neg hk3]; omega) hf g105 g108 ?_
        rcases hk with rfl | rfl | rfl
        · show rmT _ _ true (zR (vs.map zv)) b 0
          refine ⟨by rw [List.length_map]; omega, gb, by rw [List.length_map]; exact gb1, fun j hj => ?_⟩
          rw [List.length_map] at hj
          rw [gj j hj, getD_map zv vs (zI 0) 0 hj]
          rcases hmono s' hf b (Nat.le_refl _) j hj with ⟨a1, a2, a3⟩ | ⟨a1, _⟩
          · unfold celM; rw [a2, if_neg (by decide)]; exact a3
          · exact absurd (h1 rfl _ (getD_mem _ hj)) a1
        · show rmT _ _ true (zT (vs.map zr)) b 0
          refine ⟨by rw [List.length_map]; omega, gb, by rw [List.length_map]; exact gb1, fun j hj => ?_⟩
          rw [List.length_map] at hj
          rw [gj j hj, getD_map zr vs (zI 0) [] hj]
          have hk1 := h2 rfl _ (getD_mem (zI 0) hj)
          rcases hmono s' hf (b + 2 + vs.length) (by omega) j hj with ⟨a1, _⟩ | ⟨a1, a2, q, a3, a4⟩
          · omega
          · refine ⟨q, by unfold celM; rw [a2, if_pos rfl, a3], ?_⟩
            rw [zk1 hk1] at a4
            exact a4
        · exact absurd rfl hk3
      | succ m ih =>
        intro i s' hi hf g105 g108 gb gb1 gj
        refine vX10_builds_239 ?_
        rw [g108, g105]
        have kn : ¬ nI k = 3 := by rcases hk with rfl | rfl | rfl <;> first | decide | exact absurd rfl hk3
        refine pk_le _ _ (fun c => by omega) (fun _ => ⟨fun _ => ⟨inB_n (by omega), ?_⟩, fun c => absurd c kn⟩) rfl rfl
        rw [nI_1, nI_1, nI_clamp (by omega), nI_clamp (by omega), (hf.2.2.2.2.1 (n + i) (by omega)).1, (hf.2.2.2.2.1 (n + i) (by omega)).2]
        have nx : ∀ c : Int32, c = celM b (s.2.2.1 106 (n + i)) (s.2.2.1 107 (n + i)) → ExM l E w (d + 3) MX10_builds 239 [some (.ref w.1), some (.int (nI k)), some (.int (nI n)), none, none, none, none, none, some (.int (nI b)), some (.int (nI (n + i + 1)))] [] (sI (sA s' 104 (b + 2 + i) c) 105 (nI (b + 2 + i + 1))) Q := by
          intro c ec
          refine ih (i + 1) _ (by omega) (hf.trans ((mfr.hA J0 s' _ (by omega)).trans (mfr.sI J0 _ _ _ 105 _))) rfl g108 ?_ ?_ ?_
          · show (if 104 = 104 ∧ b = b + 2 + i then _ else _) = _
            rw [if_neg (by omega)]; exact gb
          · show (if 104 = 104 ∧ b + 1 = b + 2 + i then _ else _) = _
            rw [if_neg (by omega)]; exact gb1
          · intro j hj
            show (if 104 = 104 ∧ b + 2 + j = b + 2 + i then _ else _) = _
            by_cases e : j = i
            · subst e; rw [if_pos ⟨rfl, rfl⟩]; exact ec
            · rw [if_neg (by omega)]; exact gj j (by omega)
        refine ⟨fun c => ⟨inB_n (by omega), inB_n (by omega), nx _ ?_⟩, fun c => ⟨inB_n (by omega), inB_n (by omega), nx _ ?_⟩⟩
        · unfold celM; rw [if_neg c]
        · unfold celM; rw [if_pos c]
    exact main vs.length 0 _ (by omega) hs2 rfl m4 hb0 hb1 (fun j hj => absurd hj (Nat.not_lt_zero j))
end MV
