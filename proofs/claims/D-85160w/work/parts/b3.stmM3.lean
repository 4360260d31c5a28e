/-! THE MODEL'S STATEMENTS: blocks; if, while, for, try -/
section SO
variable {l : Launch} {E : EN} {w : MO} {d : Nat} {ch : Nat → Nat} {n hf : Nat} {s00 s s0 s1 s' sd : MS} {k pl p p1 p' o o' c c1 c' cb : Nat} {vs vs1 vs' : List Nat} {O O1 O' : Nat → Od} {B B1 B' : List Tok} {X : List XE} {bk : BE} {Bl : List BE} {Fn : List FE} {q' : Nat × Nat} {al : Int32} {Q : Option Value → MS → Prop} {R : MS → Prop} {x1 x2 x3 x4 : Int32}
/-- what the text's own tables do not touch -/
theorem mXg.cgT {g : Nat} {z : PZ} (h : mXg g ch n hf s0 z s) (e1 : ∀ j, ¬ j = 72 → ¬ j = 94 → s'.1 j = s.1 j) (e2 : s'.2.1 = s.2.1) (e3 : ∀ j, j ∉ [74, 75, 76, 77, 91, 92, 93] → s'.2.2.1 j = s.2.2.1 j) (e4 : ∀ j, ¬ j = 73 → s'.2.2.2 j = s.2.2.2 j) : mXg g ch n hf s' z s' := by
  obtain ⟨⟨⟨t1, t2, t3, t4⟩, ⟨w1, w2⟩, h69, hh, hn, -⟩, ⟨⟨k1, k2, k3, k4, k5⟩, kp⟩, ⟨o1, o2, o3⟩, h4, h5, h6, h7⟩ := h
  refine ⟨⟨⟨(e1 61 (by decide) (by decide)).trans t1, t2, fun i hi => by rw [e3 59 (by decide)]; exact t3 i hi, t4⟩, ⟨fun i hi => by rw [e4 57 (by decide)]; exact w1 i hi, fun i hi => by rw [e3 58 (by decide)]; exact w2 i hi⟩, (e1 69 (by decide) (by decide)).trans h69, hh, hn, mfX.rf _ _⟩, ⟨⟨(e1 62 (by decide) (by decide)).trans k1, (e1 63 (by decide) (by decide)).trans k2, (e1 65 (by decide) (by decide)).trans k3, fun y => by rw [e2]; exact k4 y, fun y => by rw [e2]; exact k5 y⟩, kp⟩, ⟨(e1 66 (by decide) (by decide)).trans o1, (e1 68 (by decide) (by decide)).trans o2, o3⟩, ?_, ?_, ?_, ?_⟩
  · exact fun q => (h4 q).cg (e1 79 (by decide) (by decide)) (fun i _ => by rw [e4 78 (by decide)])
  · refine h5.cg (e1 85 (by decide) (by decide)) (fun j hj i _ _ => ?_)
    have : j ∉ [74, 75, 76, 77, 91, 92, 93] := by
      simp only [List.mem_cons, List.not_mem_nil, or_false] at hj
      rcases hj with rfl | rfl | rfl | rfl | rfl <;> decide
    rw [e3 j this]
  · refine h6.cg (e1 86 (by decide) (by decide)) (fun j hj i _ => ?_) (fun i _ => by rw [e4 90 (by decide)])
    have : j ∉ [74, 75, 76, 77, 91, 92, 93] := by
      simp only [List.mem_cons, List.not_mem_nil, or_false] at hj
      rcases hj with rfl | rfl | rfl <;> decide
    rw [e3 j this]
  · refine fun q => (h7 q).cg (e1 101 (by decide) (by decide)) (fun j hj i _ => ?_) (fun i _ => by rw [e4 99 (by decide)])
    have : j ∉ [74, 75, 76, 77, 91, 92, 93] := by
      simp only [List.mem_cons, List.not_mem_nil, or_false] at hj
      rcases hj with rfl | rfl | rfl | rfl | rfl <;> decide
    rw [e3 j this]
/-- a block more -/
theorem mTt.push {z : PZ} {zB : BE} (h : mXg 1 ch n hf s0 ((p, o), vs, O, c, B, []) s) (hb : mBl s Bl) (hf' : mFn hf s Fn) (hT : mfT hf s00 s) (es : s' = sI (sA (sA (sA s 91 Bl.length (nI zB.1)) 92 Bl.length (nI zB.2.1)) 93 Bl.length (nI zB.2.2)) 94 (nI (Bl.length + 1))) : mTt ch n hf s00 (((p, o), vs, O, c, B), zB :: Bl, Fn) s' := by
  have fT : mfT hf s s' := by rw [es]; exact (((mfT.sA3 s (by decide)).trans (mfT.sA3 _ (by decide))).trans (mfT.sA3 _ (by decide))).trans (mfT.sI94 _ _)
  have a1 : ∀ j i, (j ∉ [91, 92, 93] ∨ ¬ i = Bl.length) → s'.2.2.1 j i = s.2.2.1 j i := by
    intro j i hj
    rw [es]
    have h' : ∀ q, q ∈ [91, 92, 93] → ¬ (j = q ∧ i = Bl.length) := fun q hq z => by
      rcases hj with y | y
      · exact y (z.1 ▸ hq)
      · exact y z.2
    show (sA (sA (sA s 91 Bl.length (nI zB.1)) 92 Bl.length (nI zB.2.1)) 93 Bl.length (nI zB.2.2)).2.2.1 j i = _
    rw [sA_ne _ _ (h' 93 (by decide)), sA_ne _ _ (h' 92 (by decide)), sA_ne _ _ (h' 91 (by decide))]
  have i1 : ∀ j, ¬ j = 94 → s'.1 j = s.1 j := fun j hj => by rw [es]; exact sI_ne _ _ hj
  have l1 : s'.2.1 = s.2.1 ∧ s'.2.2.2 = s.2.2.2 := by rw [es]; exact ⟨rfl, rfl⟩
  refine ⟨h.cgT (fun j _ hj => i1 j hj) l1.1 (fun j hj => funext fun i => a1 j i (Or.inl (fun z => hj (by revert z; simp only [List.mem_cons, List.not_mem_nil, or_false]; omega)))) (fun j _ => by rw [l1.2]), ⟨?_, ⟨?_, ?_, ?_⟩, hb.2.cg (fun j hj i hi => a1 j i (Or.inr (by omega)))⟩, hf'.cg (i1 72 (by decide)) (fun j hj i _ => a1 j _ (Or.inl (fun z => by simp only [List.mem_cons, List.not_mem_nil, or_false] at hj z; omega))) (fun i _ => by rw [l1.2]), hT.trans fT⟩
  · rw [es]; rfl
  · rw [es]; simp [sI, sA]
  · rw [es]; simp [sI, sA]
  · rw [es]; simp [sI, sA]
theorem M_block (hst : l.stackTraces = false) {zB : BE} {x1 x2 x3 : Int32} (h : mXg 1 ch n hf s0 ((p, o), vs, O, c, B, []) s) (hb : mBl s0 Bl) (hfn : mFn hf s0 Fn) (hT : mfT hf s00 s0) (hbl : Bl.length ≤ 11) (e1 : x1 = nI zB.1) (e2 : x2 = nI zB.2.1) (e3 : x3 = nI zB.2.2)
    (hno : ¬ ((tk ch n p).1 = 3 ∧ (tk ch n p).2.2.1 = 123) → ∀ s', tF hf s00 c (Bl.length + 1) (wk (tk ch n p)) (tk ch n p).2.1 s' → Q none s') (hdp : (tk ch n p).1 = 3 → (tk ch n p).2.2.1 = 123 → o = 10 → ∀ s', tF hf s00 c (Bl.length + 1) 3 (tk ch n p).2.1 s' → Q none s')
    (hok : (tk ch n p).1 = 3 → (tk ch n p).2.2.1 = 123 → o < 10 → ∀ s', mTt ch n hf s00 ((((tk ch n p).2.2.2, o + 1), vs, O, c, B), zB :: Bl, Fn) s' → Q none s') : EvM l E w (d + 5) MX10_block [.ref w.1, .int x1, .int x2, .int x3] s Q := by
  refine eX10_block hst (MP_opens hst (k := 123) h (by decide) (fun z s' h' _ h66 => ⟨rfl, tF_blockI (h'.tF h66 hT hb.1) hbl (hno z)⟩) (fun z1 z2 z3 s' h' _ h66 => ⟨rfl, tF_blockI (h'.tF h66 hT hb.1) hbl (hdp z1 z2 z3)⟩) (fun z1 z2 z3 s' h' => ⟨rfl, ?_⟩))
  have hb' := hb.fr h'.frm
  have e94 : s'.1 94 = nI Bl.length := hb'.1
  have hB : inB (s'.1 94) 12 := by rw [e94]; exact inB_n (by omega)
  refine ⟨hB, hB, hB, ?_⟩
  rw [e94, nI_clamp (by omega), ← nI_succ, e1, e2, e3]
  exact hok z1 z2 z3 _ (mTt.push (z := ((p, o), vs, O, c, B, [])) h' hb' (hfn.fr h'.frm) (hT.trans (mfT.ofX h'.frm)) rfl)
theorem M_here (hst : l.stackTraces = false) {g : Nat} {z : PZ} (h : mXg g ch n hf s0 z s) (hQ : Q (some (.int (nI (4000 * (1 - hf) + z.2.2.2.1)))) s) : EvM l E w d MX10_here [.ref w.1] s Q := by
  refine eX10_here hst ?_
  rw [h.1.2.2.1, base_eq h.1.2.2.2.1, h.2.2.2.2.1.1, nI_add]
  exact hQ
/-- if, while -/
def askO (O : Nat → Od) (b : Nat) (wh : Bool) (pl : Int32) : Nat → Od := if wh then oup O b (16, 0, 0, 0, pl) else O
def askC (c : Nat) (wh : Bool) : Nat := if wh then c + 1 else c
theorem st_ask (hst : l.stackTraces = false) (h8 : mXg 1 ch n hf s0 ((p, o), vs, O, c, B, []) s1) (hc : c < 3950) {wh : Bool} (hk : kw (tk ch n p) = if wh then 3 else 1) {y : Int32}
    (hx : ∀ s1, mXg 1 ch n hf s0 (((tk ch n p).2.2.2, o), vs, askO O (4000 * (1 - hf) + c) wh y, askC c wh, B, []) s1 → EvM l E w (d + 11) MX10_opens [.ref w.1, .int 40] s1 (fun r s4 => r = none ∧ (EvM l E w (d + 11) MX10_expression [.ref w.1, .int 0] s4 (fun r s5 => r = none ∧ (EvM l E w (d + 11) MX10_sign [.ref w.1, .int 41] s5 (fun r s6 => r = none ∧ (EvM l E w (d + 11) MX10_order [.ref w.1, .int 14, .int 0, .int 0, .int y] s6 (fun r s7 => ∃ v8 : Int32, r = some (.int v8) ∧ (EvM l E w (d + 11) MX10_block [.ref w.1, .int (nI (if wh then 3 else 1)), .int v8, .int (nI (4000 * (1 - hf) + c))] s7 (fun r s9 => r = none ∧ Q none s9)))))))))) : ExM l E w (d + 12) MX10_statement 93 [some (.ref w.1), some (.int y), some (.int (kwI (tk ch n p))), none, none] [] s1 Q := by
  refine vX10_statement_93 (kwI_ge (fun _ => ?_) (fun z => by rw [hk] at z; split at z <;> omega))
  cases wh with
  | false =>
    have hk : kw (tk ch n p) = 1 := hk
    refine kwI_is (m := 1) rfl (by omega) (fun _ => ?_) (fun z => absurd hk z)
    refine h8.takeX hst (fun s2 h2 => ⟨rfl, M_here hst h2 ⟨_, rfl, And.symm (kwI_is (m := 3) rfl (by omega) (fun z => by omega) (fun _ => ?_))⟩⟩)
    refine EvM.mono (fun r s3 h3 => ⟨h3.1, EvM.mono (fun r s4 h4 => ⟨h4.1, EvM.mono (fun r s5 h5 => ⟨h5.1, EvM.mono (fun r s6 h6 => ?_) h5.2⟩) h4.2⟩) h3.2⟩) (hx s2 h2)
    obtain ⟨v8, e8, h6⟩ := h6
    exact ⟨v8, e8, And.symm (kwI_is (m := 1) rfl (by omega) (fun _ => h6) (fun z => absurd hk z))⟩
  | true =>
    have hk : kw (tk ch n p) = 3 := hk
    refine kwI_is (m := 1) rfl (by omega) (fun z => by omega) (fun _ => And.symm (kwI_is (m := 3) rfl (by omega) (fun _ => ?_) (fun z => absurd hk z)))
    refine h8.takeX hst (fun s2 h2 => ⟨rfl, M_here hst h2 ⟨_, rfl, And.symm (kwI_is (m := 3) rfl (by omega) (fun _ => ?_) (fun z => absurd hk z))⟩⟩)
    refine MP_order hst (od := (16, 0, 0, 0, y)) h2 (by omega) rfl rfl rfl rfl (by show ¬ 16 = 13; omega) (fun s3 h3 _ => ⟨_, rfl, ?_⟩)
    refine EvM.mono (fun r s3 h3 => ⟨h3.1, EvM.mono (fun r s4 h4 => ⟨h4.1, EvM.mono (fun r s5 h5 => ⟨h5.1, EvM.mono (fun r s6 h6 => ?_) h5.2⟩) h4.2⟩) h3.2⟩) (hx s3 h3)
    obtain ⟨v8, e8, h6⟩ := h6
    exact ⟨v8, e8, And.symm (kwI_is (m := 1) rfl (by omega) (fun z => by omega) (fun _ => h6))⟩
/-- behind a fault: sign, order, block -/
theorem askF (hst : l.stackTraces = false) {v8 : Int32} {kd t : Int32} (h : tF hf s00 cb Bl.length k pl s) (hc : cb < 3990) (hbl : Bl.length ≤ 11) (hQ : ∀ s', tF hf s00 (cb + 1) (Bl.length + 1) k pl s' → Q none s') : EvM l E w (d + 11) MX10_sign [.ref w.1, .int 41] s (fun r s6 => r = none ∧ (EvM l E w (d + 11) MX10_order [.ref w.1, .int 14, .int 0, .int 0, .int v8] s6 (fun r s7 => ∃ v8 : Int32, r = some (.int v8) ∧ (EvM l E w (d + 11) MX10_block [.ref w.1, .int kd, .int v8, .int t] s7 (fun r s9 => r = none ∧ Q none s9))))) :=
  tF_sign hst h ⟨rfl, tF_order hst h (by omega) (fun c' s2 _ h2 _ => ⟨_, rfl, tF_block hst h2 hbl (fun s3 h3 => ⟨rfl, hQ s3 h3⟩)⟩)⟩
end SO
