/-! THE MODEL'S STATEMENTS: blocks that close -/
section SQ5
theorem oup2 (O : Nat → Od) (k : Nat) (x y : Od) : oup (oup O k x) k y = oup O k y := by
  funext i
  unfold oup
  split <;> rfl
variable {l : Launch} {E : EN} {w : MO} {d : Nat} {ch : Nat → Nat} {n hf : Nat} {s00 s s0 s1 s' sd : MS} {k pl p p1 p' o o' c c1 c' cb a t kd : Nat} {vs vs1 vs' : List Nat} {O O1 O' : Nat → Od} {B B1 B' : List Tok} {X : List XE} {bk : BE} {Bl : List BE} {Fn : List FE} {q' : Nat × Nat} {al : Int32} {Q : Option Value → MS → Prop} {R : MS → Prop} {x1 x2 x3 x4 : Int32}
/-- an order that stands is changed -/
theorem mXg.pat {g : Nat} {i j : Nat} {x : Int32} {od : Od} (h : mXg g ch n hf s0 ((p, o), vs, O, c, B, X) s) (hi : 4000 * (1 - hf) ≤ i) (hi2 : i < 4000 * (1 - hf) + c) (hc : c ≤ 4000) (hj : j ∈ [81, 82, 84]) (ho : ∀ s', (∀ q, ¬ q = j → s'.2.2.1 q i = s.2.2.1 q i) → s'.2.2.1 j i = x → mO s i (O i) → mO s' i od) : mXg g ch n hf s0 ((p, o), vs, oup O i od, c, B, X) (sA s j i x) := by
  have hj5 : j ∈ [80, 81, 82, 83, 84] := by simp only [List.mem_cons, List.not_mem_nil, or_false] at hj ⊢; omega
  have hjA : j ∈ AX := by simp only [List.mem_cons, List.not_mem_nil, or_false] at hj; rcases hj with rfl | rfl | rfl <;> decide
  have hne : ∀ q, q ∈ [87, 88, 89, 95, 96, 97, 98, 100] → ¬ q = j := by
    intro q hq e
    subst e
    simp only [List.mem_cons, List.not_mem_nil, or_false] at hj hq
    omega
  obtain ⟨h1, h2, h3, h4, h5, h6, h7⟩ := h
  refine ⟨h1.fr (mfX.sA _ s j i x hjA (Or.inr (by omega))), h2, h3, fun q => (h4 q).cg rfl (fun _ _ => rfl), ⟨h5.1, fun q q1 q2 => ?_⟩, h6.cg rfl (fun q hq k' _ => sA_ne s x (fun e => hne q (by simp only [List.mem_cons, List.not_mem_nil, or_false] at hq ⊢; omega) e.1)) (fun _ _ => rfl), fun q => (h7 q).cg rfl (fun q hq k' _ => sA_ne s x (fun e => hne q (by simp only [List.mem_cons, List.not_mem_nil, or_false] at hq ⊢; omega) e.1)) (fun _ _ => rfl)⟩
  by_cases e : q = i
  · subst e
    show mO (sA s j q x) q (oup O q od q)
    rw [oup_at]
    exact ho _ (fun q' hq' => sA_ne s x (fun z => hq' z.1)) (sA_at _ _ _ _) (h5.2 q q1 q2)
  · show mO (sA s j i x) q (oup O i od q)
    rw [oup_ne _ _ e]
    exact (h5.2 q q1 q2).cg (fun j' _ => sA_ne s x (fun z => e z.2))
theorem mXg.pa {g : Nat} {i v : Nat} (h : mXg g ch n hf s0 ((p, o), vs, O, c, B, X) s) (hi : 4000 * (1 - hf) ≤ i) (hi2 : i < 4000 * (1 - hf) + c) (hc : c ≤ 4000) (h2 : ¬ (O i).1 = 2) (h5 : ¬ (O i).1 = 5) : mXg g ch n hf s0 ((p, o), vs, oup O i ((O i).1, v, (O i).2.2), c, B, X) (sA s 81 i (nI v)) :=
  h.pat hi hi2 hc (by decide) (fun s' e1 e2 q => ⟨(e1 80 (by decide)).trans q.1, by rw [e2, if_neg h2, if_neg h5], (e1 82 (by decide)).trans q.2.2.1, fun z => (e1 83 (by decide)).trans (q.2.2.2.1 z), (e1 84 (by decide)).trans q.2.2.2.2⟩)
theorem mXg.pb {g : Nat} {i v : Nat} (h : mXg g ch n hf s0 ((p, o), vs, O, c, B, X) s) (hi : 4000 * (1 - hf) ≤ i) (hi2 : i < 4000 * (1 - hf) + c) (hc : c ≤ 4000) (h13 : ¬ (O i).1 = 13) : mXg g ch n hf s0 ((p, o), vs, oup O i ((O i).1, (O i).2.1, v, (O i).2.2.2), c, B, X) (sA s 82 i (nI v)) :=
  h.pat hi hi2 hc (by decide) (fun s' e1 e2 q => ⟨(e1 80 (by decide)).trans q.1, (e1 81 (by decide)).trans q.2.1, by rw [e2]; exact (if_neg h13).symm, fun z => absurd z h13, (e1 84 (by decide)).trans q.2.2.2.2⟩)
theorem mXg.pp {g : Nat} {i : Nat} {v : Int32} (h : mXg g ch n hf s0 ((p, o), vs, O, c, B, X) s) (hi : 4000 * (1 - hf) ≤ i) (hi2 : i < 4000 * (1 - hf) + c) (hc : c ≤ 4000) : mXg g ch n hf s0 ((p, o), vs, oup O i ((O i).1, (O i).2.1, (O i).2.2.1, (O i).2.2.2.1, v), c, B, X) (sA s 84 i v) :=
  h.pat hi hi2 hc (by decide) (fun s' e1 e2 q => ⟨(e1 80 (by decide)).trans q.1, (e1 81 (by decide)).trans q.2.1, (e1 82 (by decide)).trans q.2.2.1, fun z => (e1 83 (by decide)).trans (q.2.2.2.1 z), e2⟩)
/-- a block ends -/
theorem cl_head (hst : l.stackTraces = false) (h : mTt ch n hf s00 (((p, o), vs, O, c, B), (kd, a, t) :: Bl, Fn) s) (h125 : (tk ch n p).1 = 3 ∧ (tk ch n p).2.2.1 = 125) (ho : 1 ≤ o) (hbl : Bl.length ≤ 11)
    (hr : ∀ s2, mTt ch n hf s00 ((((tk ch n p).2.2.2, o - 1), vs, O, c, B), Bl, Fn) s2 → ∀ (s1 : MS) (y2 : Int32), s2 = sI s1 94 (nI Bl.length) → s1.1 94 - 1 = nI Bl.length → y2 = nI a → (s1.2.2.1 91 Bl.length = nI kd ∧ s1.2.2.1 93 Bl.length = nI t) →
      (((s1.2.2.1 91 Bl.length) = 0 → (EvM l E w (d + 11) MX10_order [.ref w.1, .int 2, .int 0, .int 0, .int 0] s2 (fun r s3 => ∃ v4 : Int32, r = some (.int v4) ∧ (EvM l E w (d + 11) MX10_order [.ref w.1, .int 20, .int 0, .int 0, .int 0] s3 (fun r s5 => ∃ v6 : Int32, r = some (.int v6) ∧ (inB y2 24 ∧ ((none : Option Value) = none ∧ TE l E w d (sA s5 76 y2.toNatClampNeg (s5.1 79)) Q))))))) ∧ (¬ ((s1.2.2.1 91 Bl.length) = 0) → (((s1.2.2.1 91 Bl.length) = 1 → (EvM l E w (d + 11) MX10_isWord [.ref w.1, .int 2] s2 (fun r s7 => ∃ v8 : Int32, r = some (.int v8) ∧ ((v8 = 0 → (EvM l E w (d + 11) MX10_here [.ref w.1] s7 (fun r s9 => ∃ v10 : Int32, r = some (.int v10) ∧ (inB y2 8000 ∧ ((none : Option Value) = none ∧ TE l E w d (sA s9 81 y2.toNatClampNeg v10) Q))))) ∧ (¬ v8 = 0 → (EvM l E w (d + 11) MX10_order [.ref w.1, .int 15, .int 0, .int 0, .int 0] s7 (fun r s11 => ∃ v12 : Int32, r = some (.int v12) ∧ (EvM l E w (d + 11) MX10_here [.ref w.1] s11 (fun r s13 => ∃ v14 : Int32, r = some (.int v14) ∧ (inB y2 8000 ∧ (EvM l E w (d + 11) MX10_take [.ref w.1] (sA s13 81 y2.toNatClampNeg v14) (fun r s15 => r = none ∧ (EvM l E w (d + 11) MX10_block [.ref w.1, .int 2, .int v12, .int 0] s15 (fun r s16 => r = none ∧ ((none : Option Value) = none ∧ TE l E w d s16 Q))))))))))))))) ∧ (¬ ((s1.2.2.1 91 Bl.length) = 1) → (((s1.2.2.1 91 Bl.length) = 3 ∨ (s1.2.2.1 91 Bl.length) = 4 → (inB (nI Bl.length) 12 ∧ (EvM l E w (d + 11) MX10_order [.ref w.1, .int 15, .int (s1.2.2.1 93 Bl.length), .int 0, .int 0] s2 (fun r s17 => ∃ v18 : Int32, r = some (.int v18) ∧ (EvM l E w (d + 11) MX10_here [.ref w.1] s17 (fun r s19 => ∃ v20 : Int32, r = some (.int v20) ∧ (inB y2 8000 ∧ ((none : Option Value) = none ∧ TE l E w d (sA s19 81 y2.toNatClampNeg v20) Q)))))))) ∧ (¬ ((s1.2.2.1 91 Bl.length) = 3 ∨ (s1.2.2.1 91 Bl.length) = 4) → (((s1.2.2.1 91 Bl.length) = 5 → (EvM l E w (d + 11) MX10_order [.ref w.1, .int 24, .int 0, .int 0, .int 0] s2 (fun r s21 => ∃ v22 : Int32, r = some (.int v22) ∧ (inB y2 8000 ∧ (EvM l E w (d + 11) MX10_word [.ref w.1, .int 10] (sA s21 84 y2.toNatClampNeg (s21.1 63)) (fun r s23 => r = none ∧ (EvM l E w (d + 11) MX10_name [.ref w.1] s23 (fun r s24 => ∃ v25 : Int32, r = some (.int v25) ∧ (inB y2 8000 ∧ (EvM l E w (d + 11) MX10_here [.ref w.1] (sA s24 82 y2.toNatClampNeg v25) (fun r s26 => ∃ v27 : Int32, r = some (.int v27) ∧ (inB y2 8000 ∧ (EvM l E w (d + 11) MX10_block [.ref w.1, .int 6, .int v22, .int 0] (sA s26 81 y2.toNatClampNeg v27) (fun r s28 => r = none ∧ ((none : Option Value) = none ∧ TE l E w d s28 Q))))))))))))))) ∧ (¬ ((s1.2.2.1 91 Bl.length) = 5) → ((EvM l E w (d + 11) MX10_here [.ref w.1] s2 (fun r s29 => ∃ v30 : Int32, r = some (.int v30) ∧ (inB y2 8000 ∧ ((none : Option Value) = none ∧ TE l E w d (sA s29 81 y2.toNatClampNeg v30) Q)))))))))))))) : TE l E w d s Q := by
  have hX := h.x
  have ht : tkW n p (tk ch n p) := hX.1.tk hX.2.1.2
  have h14 : (tk ch n p).1 ≤ 4 := ht.1.1
  have h66 := hX.2.2.1.1
  have h94 : s.1 94 = nI (Bl.length + 1) := h.n94
  refine vX10_textOf_5 ⟨fun z => absurd h66 z, fun _ => pk_lt 0 (Bl.length + 1) (fun _ => bn_eq (Bl.length + 1) 0 (fun _ => ?_) (fun z => by omega) h94 rfl) (fun z => by omega) rfl h94⟩
  refine M_isSign hst (c := 125) hX.2.1.1 ht.1.1 ht.2.1 (by decide) ⟨_, rfl, pk_b (fun z => absurd h125 z) (fun _ => ?_)⟩
  refine eX10_closes hst (MP_sign hst (k := 125) hX (by decide) (fun _ => ho) (fun z => absurd h125 z) (fun _ _ s1 h1 _ => ⟨rfl, ?_⟩))
  rw [if_pos (by decide)] at h1
  have hb1 := h.2.1.fr h1.frm
  have e94 : s1.1 94 - 1 = nI Bl.length := by
    have : s1.1 94 = nI (Bl.length + 1) := hb1.1
    rw [this, nI_p1 (by omega)]; rfl
  rw [e94, nI_clamp (by omega)]
  have hB : inB (nI Bl.length) 12 := inB_n (by omega)
  have hm : mTt ch n hf s00 ((((tk ch n p).2.2.2, o - 1), vs, O, c, B), Bl, Fn) (sI s1 94 (nI Bl.length)) :=
    ⟨h1.cgT (fun j _ hj => sI_ne _ _ hj) rfl (fun _ _ => rfl) (fun _ _ => rfl), ⟨rfl, hb1.2.2.cg (fun _ _ _ _ => rfl)⟩, (h.2.2.1.fr h1.frm).cg rfl (fun _ _ _ _ => rfl) (fun _ _ => rfl), (h.2.2.2.trans (mfT.ofX h1.frm)).trans (mfT.sI94 _ _)⟩
  refine ⟨hB, fun y2 ey2 => ⟨hB, ?_⟩⟩
  rw [hb1.2.1.2.1] at ey2
  exact hr _ hm s1 y2 rfl e94 ey2 ⟨hb1.2.1.1, hb1.2.1.2.2⟩
theorem T_clW (hst : l.stackTraces = false) (h : mTt ch n hf s00 (((p, o), vs, O, c, B), (kd, a, t) :: Bl, Fn) s) (h125 : (tk ch n p).1 = 3 ∧ (tk ch n p).2.2.1 = 125) (ho : 1 ≤ o) (hbl : Bl.length ≤ 11) (hk : kd = 3 ∨ kd = 4) (hc : c < 3990) (ha : 4000 * (1 - hf) ≤ a ∧ a < 4000 * (1 - hf) + c) (hO : ¬ (O a).1 = 2 ∧ ¬ (O a).1 = 5)
    (hok : ∀ s', mTt ch n hf s00 ((((tk ch n p).2.2.2, o - 1), vs, oup (oup O (4000 * (1 - hf) + c) (15, t, 0, 0, 0)) a ((O a).1, 4000 * (1 - hf) + (c + 1), (O a).2.2), c + 1, B), Bl, Fn) s' → TE l E w d s' Q) : TE l E w d s Q := by
  refine cl_head hst h h125 ho hbl (fun s2 hm s1 y2 es e94 ey2 ⟨e91, e93⟩ => ?_)
  rw [e91, e93, ey2]
  refine pk_eq kd 0 (fun z => by omega) (fun _ => pk_eq kd 1 (fun z => by omega) (fun _ => ⟨fun _ => ⟨inB_n (by omega), ?_⟩, fun z => absurd ?_ z⟩) rfl rfl) rfl rfl
  · refine MP_order hst (od := (15, t, 0, 0, 0)) hm.x (by omega) rfl rfl rfl rfl (by show ¬ 15 = 13; omega) (fun s3 h3 _ => ⟨_, rfl, M_here hst h3 ⟨_, rfl, inB_n (by omega), rfl, ?_⟩⟩)
    rw [nI_clamp (by omega)]
    have e : oup O (4000 * (1 - hf) + c) (15, t, 0, 0, 0) a = O a := oup_ne _ _ (by omega)
    have h4 := h3.pa (i := a) (v := 4000 * (1 - hf) + (c + 1)) ha.1 (by omega) (by omega) (by rw [e]; exact hO.1) (by rw [e]; exact hO.2)
    rw [e] at h4
    exact hok _ (hm.of h4)
  · rcases hk with rfl | rfl
    · exact Or.inl rfl
    · exact Or.inr rfl
/-- else's and on's end -/
theorem T_clE (hst : l.stackTraces = false) (h : mTt ch n hf s00 (((p, o), vs, O, c, B), (kd, a, t) :: Bl, Fn) s) (h125 : (tk ch n p).1 = 3 ∧ (tk ch n p).2.2.1 = 125) (ho : 1 ≤ o) (hbl : Bl.length ≤ 11) (hk : kd = 2 ∨ kd = 6) (hc : c < 3990) (ha : 4000 * (1 - hf) ≤ a ∧ a < 4000 * (1 - hf) + c) (hO : ¬ (O a).1 = 2 ∧ ¬ (O a).1 = 5)
    (hok : ∀ s', mTt ch n hf s00 ((((tk ch n p).2.2.2, o - 1), vs, oup O a ((O a).1, 4000 * (1 - hf) + c, (O a).2.2), c, B), Bl, Fn) s' → TE l E w d s' Q) : TE l E w d s Q := by
  refine cl_head hst h h125 ho hbl (fun s2 hm s1 y2 es e94 ey2 ⟨e91, e93⟩ => ?_)
  rw [e91, ey2]
  have nn : ¬ ((nI kd : Int32) = 3 ∨ (nI kd : Int32) = 4) := by rcases hk with rfl | rfl <;> decide
  refine pk_eq kd 0 (fun z => by omega) (fun _ => pk_eq kd 1 (fun z => by omega) (fun _ => ⟨fun z => absurd z nn, fun _ => pk_eq kd 5 (fun z => by omega) (fun _ => ?_) rfl rfl⟩) rfl rfl) rfl rfl
  refine M_here hst hm.x ⟨_, rfl, inB_n (by omega), rfl, ?_⟩
  rw [nI_clamp (by omega)]
  exact hok _ (hm.of (hm.x.pa ha.1 ha.2 (by omega) hO.1 hO.2))
/-- if's end -/
theorem T_clI (hst : l.stackTraces = false) (h : mTt ch n hf s00 (((p, o), vs, O, c, B), (1, a, t) :: Bl, Fn) s) (h125 : (tk ch n p).1 = 3 ∧ (tk ch n p).2.2.1 = 125) (ho : 1 ≤ o) (hbl : Bl.length ≤ 10) (hc : c < 3990) (ha : 4000 * (1 - hf) ≤ a ∧ a < 4000 * (1 - hf) + c) (hO : ¬ (O a).1 = 2 ∧ ¬ (O a).1 = 5) {t1 t2 : Tok} (et1 : tk ch n (tk ch n p).2.2.2 = t1) (et2 : tk ch n t1.2.2.2 = t2)
    (hok : ¬ kw t1 = 2 → ∀ s', mTt ch n hf s00 ((((tk ch n p).2.2.2, o - 1), vs, oup O a ((O a).1, 4000 * (1 - hf) + c, (O a).2.2), c, B), Bl, Fn) s' → TE l E w d s' Q)
    (hno : kw t1 = 2 → ¬ (t2.1 = 3 ∧ t2.2.2.1 = 123) → ∀ s', mTF hf s00 (wk t2) t2.2.1 s' → Q none s')
    (hel : kw t1 = 2 → t2.1 = 3 → t2.2.2.1 = 123 → ∀ s', mTt ch n hf s00 (((t2.2.2.2, o - 1 + 1), vs, oup (oup O (4000 * (1 - hf) + c) (15, 0, 0, 0, 0)) a ((O a).1, 4000 * (1 - hf) + (c + 1), (O a).2.2), c + 1, B), (2, 4000 * (1 - hf) + c, 0) :: Bl, Fn) s' → TE l E w d s' Q) : TE l E w d s Q := by
  subst et1
  subst et2
  have ho10 : o ≤ 10 := h.x.2.2.1.2.2
  refine cl_head hst h h125 ho (by omega) (fun s2 hm s1 y2 es e94 ey2 ⟨e91, e93⟩ => ?_)
  rw [e91, ey2]
  have ht1 := hm.x.1.tk hm.x.2.1.2
  refine pk_eq 1 0 (fun z => by omega) (fun _ => pk_eq 1 1 (fun _ => ?_) (fun z => absurd rfl z) rfl rfl) rfl rfl
  refine M_isWord hst (k := 2) hm.x.1.2.1 hm.x.2.1.1 ht1.1.1 ht1.2.1 (by omega) ⟨_, rfl, pk_b (fun z => ?_) (fun z => ?_)⟩
  · refine M_here hst hm.x ⟨_, rfl, inB_n (by omega), rfl, ?_⟩
    rw [nI_clamp (by omega)]
    exact hok (fun y => z ((kw_iff (by omega)).mpr y)) _ (hm.of (hm.x.pa ha.1 ha.2 (by omega) hO.1 hO.2))
  · have z := (kw_iff (by omega)).mp z
    refine MP_order hst (od := (15, 0, 0, 0, 0)) hm.x (by omega) rfl rfl rfl rfl (by show ¬ 15 = 13; omega) (fun s3 h3 _ => ⟨_, rfl, M_here hst h3 ⟨_, rfl, inB_n (by omega), ?_⟩⟩)
    rw [nI_clamp (by omega)]
    have e : oup O (4000 * (1 - hf) + c) (15, 0, 0, 0, 0) a = O a := oup_ne _ _ (by omega)
    have h4 := h3.pa (i := a) (v := 4000 * (1 - hf) + (c + 1)) ha.1 (by omega) (by omega) (by rw [e]; exact hO.1) (by rw [e]; exact hO.2)
    rw [e] at h4
    refine h4.takeX hst (fun s5 h5 => ⟨rfl, ?_⟩)
    exact M_block (zB := (2, 4000 * (1 - hf) + c, 0)) hst h5 hm.bl hm.fn hm.ft (by omega) rfl rfl rfl (fun y s6 h6 => ⟨rfl, rfl, h6.fin (hno z y)⟩) (fun _ _ y => by omega) (fun y1 y2 _ s6 h6 => ⟨rfl, rfl, hel z y1 y2 s6 h6⟩)
/-- try's end -/
theorem T_clT (hst : l.stackTraces = false) (h : mTt ch n hf s00 (((p, o), vs, O, c, B), (5, a, t) :: Bl, Fn) s) (h125 : (tk ch n p).1 = 3 ∧ (tk ch n p).2.2.1 = 125) (ho : 1 ≤ o) (hbl : Bl.length ≤ 10) (hc : c < 3950) (ha : 4000 * (1 - hf) ≤ a ∧ a < 4000 * (1 - hf) + c) (hO : (O a).1 = 23) {t1 t2 t3 : Tok} (et1 : tk ch n (tk ch n p).2.2.2 = t1) (et2 : tk ch n t1.2.2.2 = t2) (et3 : tk ch n t2.2.2.2 = t3)
    (hon : ¬ kw t1 = 10 → ∀ s', mTF hf s00 (wk t1) t1.2.1 s' → Q none s') (hno : kw t1 = 10 → ¬ (t2.1 = 1 ∧ kw t2 = 41) → ∀ s', mTF hf s00 (wk t2) t2.2.1 s' → Q none s')
    (hfull : kw t1 = 10 → t2.1 = 1 → kw t2 = 41 → (¬ (1 ≤ t2.2.2.1 ∧ t2.2.2.1 ≤ 8) ∧ nix vs t2.2.2.1 = 14) → ∀ s', mTF hf s00 3 t2.2.1 s' → Q none s')
    (hbr : kw t1 = 10 → t2.1 = 1 → kw t2 = 41 → ¬ (¬ (1 ≤ t2.2.2.1 ∧ t2.2.2.1 ≤ 8) ∧ nix vs t2.2.2.1 = 14) → ¬ (t3.1 = 3 ∧ t3.2.2.1 = 123) → ∀ s', mTF hf s00 (wk t3) t3.2.1 s' → Q none s')
    (hok : kw t1 = 10 → t2.1 = 1 → kw t2 = 41 → ¬ (¬ (1 ≤ t2.2.2.1 ∧ t2.2.2.1 ≤ 8) ∧ nix vs t2.2.2.1 = 14) → t3.1 = 3 → t3.2.2.1 = 123 → ∀ s', mTt ch n hf s00 (((t3.2.2.2, o - 1 + 1), nmV vs t2.2.2.1, oup (oup O (4000 * (1 - hf) + c) (24, 0, 0, 0, 0)) a (23, 4000 * (1 - hf) + (c + 1), nmN vs t2.2.2.1, (O a).2.2.2.1, nI t1.2.1), c + 1, B), (6, 4000 * (1 - hf) + c, 0) :: Bl, Fn) s' → TE l E w d s' Q) : TE l E w d s Q := by
  subst et1
  subst et2
  subst et3
  have ho10 : o ≤ 10 := h.x.2.2.1.2.2
  refine cl_head hst h h125 ho (by omega) (fun s2 hm s1 y2 es e94 ey2 ⟨e91, e93⟩ => ?_)
  rw [e91, ey2]
  have nn : ¬ ((nI 5 : Int32) = 3 ∨ (nI 5 : Int32) = 4) := by decide
  refine pk_eq 5 0 (fun z => by omega) (fun _ => pk_eq 5 1 (fun z => by omega) (fun _ => ⟨fun z => absurd z nn, fun _ => pk_eq 5 5 (fun _ => ?_) (fun z => absurd rfl z) rfl rfl⟩) rfl rfl) rfl rfl
  have hB : inB (nI a) 8000 := inB_n (by omega)
  have e : oup O (4000 * (1 - hf) + c) (24, 0, 0, 0, 0) a = O a := oup_ne _ _ (by omega)
  refine MP_order hst (od := (24, 0, 0, 0, 0)) hm.x (by omega) rfl rfl rfl rfl (by show ¬ 24 = 13; omega) (fun s3 h3 _ => ⟨_, rfl, hB, ?_⟩)
  rw [nI_clamp (by omega), h3.2.1.1.2.1]
  have h4 := h3.pp (i := a) (v := nI (tk ch n (tk ch n p).2.2.2).2.1) ha.1 (by omega) (by omega)
  rw [e] at h4
  have hhere : ∀ s : MS, s.1 69 = nI hf → ∀ c', s.1 85 = nI c' → ∀ Q : Option Value → MS → Prop, Q (some (.int (nI (4000 * (1 - hf) + c')))) s → EvM l E w (d + 11) MX10_here [.ref w.1] s Q := fun s h69 c' h85 Q hQ => by
    refine eX10_here hst ?_
    rw [h69, base_eq h.x.1.2.2.2.1, h85, nI_add]
    exact hQ
  -- a fault runs through
  have fb : ∀ {cb nb k pl : Nat} {s5 : MS} {v22 v25 : Int32}, tF hf s00 cb nb k pl s5 → nb ≤ 11 → (∀ s', mTF hf s00 k pl s' → Q none s') → EvM l E w (d + 11) MX10_here [.ref w.1] (sA s5 82 a v25) (fun r s26 => ∃ v27 : Int32, r = some (.int v27) ∧ (inB (nI a) 8000 ∧ (EvM l E w (d + 11) MX10_block [.ref w.1, .int 6, .int v22, .int 0] (sA s26 81 a v27) (fun r s28 => r = none ∧ ((none : Option Value) = none ∧ TE l E w d s28 Q))))) := fun {cb nb k pl s5 v22 v25} h5 hnb hQ => by
    have h6 := h5.patch (j := 82) (i := a) (v := v25) (by decide) (by omega)
    obtain ⟨c', e85, -⟩ := h6.2.2.1
    refine hhere _ h6.2.2.2.2.1 c' e85 _ ⟨_, rfl, hB, ?_⟩
    exact tF_block hst (h6.patch (j := 81) (i := a) (by decide) (by omega)) hnb (fun s7 h7 => ⟨rfl, rfl, h7.fin hQ⟩)
  refine M_word hst (x := 10) (by omega) h4 (fun z s5 h5 h66 => ⟨rfl, ?_⟩) (fun z s5 h5 => ⟨rfl, ?_⟩)
  · have t5 := h5.tF h66 hm.ft hm.n94
    exact tF_name hst t5 ⟨_, rfl, hB, fb t5 (by omega) (hon z)⟩
  · refine M_nm hst h5 (fun y s6 h6 h66 => ⟨_, rfl, hB, fb (h6.tF h66 hm.ft hm.n94) (by omega) (hno z y)⟩) (fun y1 y2 y3 s6 h6 h66 => ⟨_, rfl, hB, fb (h6.tF h66 hm.ft hm.n94) (by omega) (hfull z y1 y2 y3)⟩) (fun y1 y2 y3 s6 h6 => ⟨_, rfl, hB, ?_⟩)
    have oa : ∀ od : Od, oup (oup O (4000 * (1 - hf) + c) (24, 0, 0, 0, 0)) a od a = od := fun od => oup_at _ _ _
    have h7 := h6.pb (i := a) (v := nmN vs (tk ch n (tk ch n (tk ch n p).2.2.2).2.2.2).2.2.1) ha.1 (by omega) (by omega) (by rw [oa, hO]; show ¬ 23 = 13; omega)
    rw [oa, oup2] at h7
    refine M_here hst h7 ⟨_, rfl, hB, ?_⟩
    have h8 := h7.pa (i := a) (v := 4000 * (1 - hf) + (c + 1)) ha.1 (by omega) (by omega) (by rw [oa]; show ¬ (O a).1 = 2; omega) (by rw [oa]; show ¬ (O a).1 = 5; omega)
    rw [oa, oup2] at h8
    rw [hO] at h8
    refine M_block (zB := (6, 4000 * (1 - hf) + c, 0)) (O := oup (oup O (4000 * (1 - hf) + c) (24, 0, 0, 0, 0)) a (23, 4000 * (1 - hf) + (c + 1), nmN vs (tk ch n (tk ch n (tk ch n p).2.2.2).2.2.2).2.2.1, (O a).2.2.2.1, nI (tk ch n (tk ch n p).2.2.2).2.1)) hst ?_ hm.bl hm.fn hm.ft (by omega) rfl rfl rfl (fun q s9 h9 => ⟨rfl, rfl, h9.fin (hbr z y1 y2 y3 q)⟩) (fun _ _ q => by omega) (fun q1 q2 _ s9 h9 => ⟨rfl, rfl, hok z y1 y2 y3 q1 q2 s9 h9⟩)
    exact h8
end SQ5
