/-! THE MODEL'S STATEMENTS: what they are made of -/
section SM
variable {l : Launch} {E : EN} {w : MO} {d : Nat} {ch : Nat → Nat} {n hf : Nat} {s00 s s0 s' : MS} {k pl p p' o o' c c' cb : Nat} {vs vs' : List Nat} {O O' : Nat → Od} {B B' : List Tok} {X : List XE} {bk : BE} {Bl : List BE} {Fn : List FE} {q' : Nat × Nat} {al : Int32} {Q : Option Value → MS → Prop}
theorem mTt.x (h : mTt ch n hf s00 (((p, o), vs, O, c, B), Bl, Fn) s) : mXg 1 ch n hf s ((p, o), vs, O, c, B, []) s := h.1
theorem mTt.bl (h : mTt ch n hf s00 (((p, o), vs, O, c, B), Bl, Fn) s) : mBl s Bl := h.2.1
theorem mTt.fn (h : mTt ch n hf s00 (((p, o), vs, O, c, B), Bl, Fn) s) : mFn hf s Fn := h.2.2.1
theorem mTt.ft (h : mTt ch n hf s00 (((p, o), vs, O, c, B), Bl, Fn) s) : mfT hf s00 s := h.2.2.2
theorem mTt.n94 (h : mTt ch n hf s00 (((p, o), vs, O, c, B), Bl, Fn) s) : s.1 94 = nI Bl.length := h.2.1.1
theorem mT0.x (h : mT0 ch n hf s00 (((p, o), vs, O, c, B), Bl, Fn) s) : mXg 0 ch n hf s ((p, o), vs, O, c, B, []) s := h.1
theorem mT0.fn (h : mT0 ch n hf s00 (((p, o), vs, O, c, B), Bl, Fn) s) : mFn hf s Fn := h.2.2.1
theorem mT0.ft (h : mT0 ch n hf s00 (((p, o), vs, O, c, B), Bl, Fn) s) : mfT hf s00 s := h.2.2.2
theorem mT0.n94 (h : mT0 ch n hf s00 (((p, o), vs, O, c, B), Bl, Fn) s) : s.1 94 = nI Bl.length := h.2.1.1
theorem mT0.of {p' o' c' : Nat} {vs' : List Nat} {O' : Nat → Od} {B' : List Tok} (h : mT0 ch n hf s00 (((p, o), vs, O, c, B), Bl, Fn) s) (h' : mXg 0 ch n hf s ((p', o'), vs', O', c', B', []) s') : mT0 ch n hf s00 (((p', o'), vs', O', c', B'), Bl, Fn) s' :=
  ⟨h'.rebase, h.2.1.fr h'.frm, h.2.2.1.fr h'.frm, h.2.2.2.trans (mfT.ofX h'.frm)⟩
theorem mXg.w0 (h : mXg 1 ch n hf s0 ((p, o), vs, O, c, B, []) s) : mX ch n hf s0 ((p, o), vs, O, c, B, []) (sI s 101 0) := by
  obtain ⟨h1, h2, h3, h4, h5, h6, h7⟩ := h
  exact ⟨h1.fr (mfX.sI _ _ 101 _), h2, ⟨h3.1, h3.2.1, h3.2.2⟩, fun _ => (h4 (Nat.le_refl _)).cg rfl (fun _ _ => rfl), h5.cg rfl (fun _ _ _ _ _ => rfl), h6.cg rfl (fun _ _ _ _ => rfl) (fun _ _ => rfl), fun _ => ⟨rfl, trivial⟩⟩
theorem XE_ok (hst : l.stackTraces = false) {sd : MS} (hx : XF l E w d 0 ch n hf sd (0, 0) ((p, o), vs, O, c, B, []) q' ((p', o'), vs', O', c', B', [])) (hq : okE q' (tk ch n p')) (hc : c' < 3900) (h : mXg 1 ch n hf s0 ((p, o), vs, O, c, B, []) s) (hQ : ∀ s', mXg 1 ch n hf s0 ((p', o'), vs', O', c', B', []) s' → Q none s') : EvM l E w (d + 10) MX10_expression [.ref w.1, .int 0] s Q :=
  eX10_expression hst (hx s0 Q (fun s1 h1 => Exp.ret hst hq h1 rfl hc (fun s' h' => hQ s' (h'.le (by decide)))) (sI s 101 0) (mP0 h.w0))
theorem XE_al (hst : l.stackTraces = false) {sd : MS} (hx : XF l E w d 1 ch n hf sd (0, 0) ((p, o), vs, O, c, B, []) (1, 0) ((p', o'), vs', O', c', B', [])) (h : mXg 1 ch n hf s0 ((p, o), vs, O, c, B, []) s) (hQ : ∀ s', mXg 1 ch n hf s0 ((p', o'), vs', O', c', B', []) s' → Q none s') : EvM l E w (d + 10) MX10_expression [.ref w.1, .int 1] s Q :=
  eX10_expression hst (hx s0 Q (fun s1 h1 => by
    have h1 := mP1' h1
    have e101 : s1.1 101 = 0 := h1.len
    exact vX10_expression_7 ⟨fun z => absurd h1.2.2.1.1 z, fun _ => ⟨fun _ => ⟨fun z => absurd z (by decide), fun _ => ⟨fun z => absurd e101 z, fun _ => hQ s1 (h1.le (by decide))⟩⟩, fun z => absurd z (by decide)⟩⟩) (sI s 101 0) (mP0 h.w0))
theorem XE_bad (hst : l.stackTraces = false) {sd : MS} (hx : XB l E w d al ch n hf sd (0, 0) ((p, o), vs, O, c, B, []) k pl) (h : mXg 1 ch n hf s0 ((p, o), vs, O, c, B, []) s) (hQ : ∀ s', mFt ch n hf s0 3990 k pl s' → Q none s') : EvM l E w (d + 10) MX10_expression [.ref w.1, .int al] s Q :=
  eX10_expression hst (hx s0 Q hQ (sI s 101 0) (mP0 h.w0))
theorem mFt.told {t : Tok} (h : mXb ch n hf s0 s) (hc : ∃ c', s.1 85 = nI c' ∧ c' ≤ cb) (hk : k = wk t) (hpl : t.2.1 = pl) : mFt ch n hf s0 cb k pl (sI (sI s 66 (nI (wk t))) 67 (nI t.2.1)) := by
  refine ⟨h.fr ((mfX.sI _ _ 66 _).trans (mfX.sI _ _ 67 _)), hc, Or.inl ⟨?_, ?_, by rw [hk]; rfl, by rw [← hpl]; rfl⟩⟩
  · rw [hk]; unfold wk; split <;> omega
  · rw [hk]; unfold wk; split <;> omega
theorem mFt_sign (hst : l.stackTraces = false) {x : Nat} (hx : x < 128) (h : mFt ch n hf s0 cb k pl s) (hQ : ∀ s', mFt ch n hf s0 cb k pl s' → ¬ s'.1 66 ≤ 0 → Q none s') : EvM l E w (d + 2) MX10_sign [.ref w.1, .int (nI x)] s Q := by
  obtain ⟨h1, h2, h3⟩ := id h
  rcases h3 with ⟨g1, g2, g3, g4⟩ | ⟨g1, g2, t, g3, g4, g5, g6⟩
  · have hp : ¬ s.1 66 ≤ 0 := by rw [g3]; rcases (show k = 1 ∨ k = 2 ∨ k = 3 ∨ k = 4 ∨ k = 5 ∨ k = 6 by omega) with rfl | rfl | rfl | rfl | rfl | rfl <;> decide
    exact eX10_sign hst ⟨fun z => absurd z hp, fun _ => hQ s h hp⟩
  · have hw : wk t = 1 := if_pos g4
    refine eX10_sign hst ⟨fun _ => M_isSign hst (c := x) g3 (by omega) g6 hx ⟨_, rfl, pk_b (fun _ => ?_) (fun z => absurd z.1 (by omega))⟩, fun z => absurd (by rw [g2]; decide) z⟩
    exact M_wrong hst g3 (by omega) g2 ⟨rfl, hQ _ (mFt.told h1 h2 (by omega) g5) (by show ¬ (nI (wk t) : Int32) ≤ 0; rw [hw]; decide)⟩
theorem mFt_opens (hst : l.stackTraces = false) {x : Nat} (hx : x < 128) (h : mFt ch n hf s0 cb k pl s) (hQ : ∀ s', mFt ch n hf s0 cb k pl s' → ¬ s'.1 66 ≤ 0 → Q none s') : EvM l E w (d + 2) MX10_opens [.ref w.1, .int (nI x)] s Q := by
  obtain ⟨h1, h2, h3⟩ := id h
  rcases h3 with ⟨g1, g2, g3, g4⟩ | ⟨g1, g2, t, g3, g4, g5, g6⟩
  · have hp : ¬ s.1 66 ≤ 0 := by rw [g3]; rcases (show k = 1 ∨ k = 2 ∨ k = 3 ∨ k = 4 ∨ k = 5 ∨ k = 6 by omega) with rfl | rfl | rfl | rfl | rfl | rfl <;> decide
    exact eX10_opens hst ⟨fun z => absurd z hp, fun _ => hQ s h hp⟩
  · have hw : wk t = 1 := if_pos g4
    refine eX10_opens hst ⟨fun _ => M_isSign hst (c := x) g3 (by omega) g6 hx ⟨_, rfl, bn_b (fun _ => ?_) (fun z => absurd z.1 (by omega))⟩, fun z => absurd (by rw [g2]; decide) z⟩
    exact M_wrong hst g3 (by omega) g2 ⟨rfl, hQ _ (mFt.told h1 h2 (by omega) g5) (by show ¬ (nI (wk t) : Int32) ≤ 0; rw [hw]; decide)⟩
theorem mFt_order (hst : l.stackTraces = false) {x1 x2 x3 x4 : Int32} (h : mFt ch n hf s0 cb k pl s) (hc : cb < 3999) (hQ : ∀ c' s', c' < 4000 → mFt ch n hf s0 (cb + 1) k pl s' → s'.1 66 = s.1 66 → Q (some (.int (nI (4000 * (1 - hf) + c')))) s') : EvM l E w d MX10_order [.ref w.1, .int x1, .int x2, .int x3, .int x4] s Q := by
  obtain ⟨h1, ⟨c', h3, h3'⟩, h4⟩ := h
  have h5 := h1.2.2.1
  have h6 := h1.2.2.2.1
  have e : (4000 : Int32) * (1 - s.1 69) + s.1 85 = nI (4000 * (1 - hf) + c') := by rw [h5, base_eq h6, h3, nI_add]
  refine eX10_order hst (fun y ey => ?_)
  rw [e] at ey
  subst ey
  have hb : inB (nI (4000 * (1 - hf) + c')) 8000 := inB_n (by omega)
  refine ⟨hb, hb, hb, hb, hb, ?_⟩
  rw [nI_clamp (by omega), h3, ← nI_succ]
  have hk : ∀ j, j ∉ [80, 81, 82, 83, 84] ∨ (4000 * (1 - hf) ≤ 4000 * (1 - hf) + c' ∧ 4000 * (1 - hf) + c' < 4000 * (1 - hf) + 4000) := fun j => Or.inr (by omega)
  have fr : mfX (4000 * (1 - hf)) s (sI (sA (sA (sA (sA (sA s 80 (4000 * (1 - hf) + c') x1) 81 (4000 * (1 - hf) + c') x2) 82 (4000 * (1 - hf) + c') x3) 83 (4000 * (1 - hf) + c') 0) 84 (4000 * (1 - hf) + c') x4) 85 (nI (c' + 1))) :=
    ((((((mfX.sA _ s 80 _ x1 (by decide) (hk _)).trans (mfX.sA _ _ 81 _ x2 (by decide) (hk _))).trans (mfX.sA _ _ 82 _ x3 (by decide) (hk _))).trans (mfX.sA _ _ 83 _ 0 (by decide) (hk _))).trans (mfX.sA _ _ 84 _ x4 (by decide) (hk _))).trans (mfX.sI _ _ 85 _))
  refine hQ c' _ (by omega) ⟨h1.fr fr, ⟨c' + 1, rfl, by omega⟩, ?_⟩ rfl
  rcases h4 with g | ⟨g1, g2, t, g3, g4⟩
  · exact Or.inl g
  · exact Or.inr ⟨g1, g2, t, g3, g4⟩
theorem kwI_is {t : Tok} {m : Nat} {x : Int32} {A B : Prop} (hx : x = nI m) (hm : m < 41) (f : kw t = m → A) (g : ¬ kw t = m → B) : (kwI t = x → A) ∧ (¬ kwI t = x → B) := by
  unfold kwI
  split
  · exact pk_eq (kw t) m f g rfl hx
  · subst hx
    exact ⟨fun z => absurd (by decide : (-1 : Int32) < 0) (by rw [z]; exact nI_pos (by omega)), fun _ => g (by omega)⟩
/-- a statement begins -/
theorem st_core (hst : l.stackTraces = false) (h : mTt ch n hf s00 (((p, o), vs, O, c, B), bk :: Bl, Fn) s) (hns : ¬ ((tk ch n p).1 = 3 ∧ (tk ch n p).2.2.1 = 125)) (hc : c < 3900) (hbl : Bl.length ≤ 10)
    (hbad : (¬ (tk ch n p).1 = 1 ∨ kw (tk ch n p) ∈ [0, 2, 5, 10]) → ∀ s', mFt ch n hf s c (wk (tk ch n p)) (tk ch n p).2.1 s' → ¬ s'.1 66 ≤ 0 → TE l E w d s' Q)
    (hcall : (tk ch n p).1 = 1 → ((11 ≤ kw (tk ch n p) ∧ kw (tk ch n p) < 41) ∨ (kw (tk ch n p) = 41 ∧ bt ch n (sk ch n (tk ch n p).2.2.2) = 40)) → ∀ s', mXg 1 ch n hf s ((p, o), vs, oup O (4000 * (1 - hf) + c) (1, 0, 0, 0, nI (tk ch n p).2.1), c + 1, B, []) s' → EvM l E w (d + 11) MX10_expression [.ref w.1, .int 1] s' (fun r s10 => r = none ∧ (EvM l E w (d + 11) MX10_sign [.ref w.1, .int 59] s10 (fun r s11 => r = none ∧ (EvM l E w (d + 11) MX10_order [.ref w.1, .int 22, .int 0, .int 0, .int (nI (tk ch n p).2.1)] s11 (fun r s12 => ∃ v13 : Int32, r = some (.int v13) ∧ ((none : Option Value) = none ∧ TE l E w d s12 Q)))))))
    (hrest : (tk ch n p).1 = 1 → (kw (tk ch n p) ∈ [1, 3, 4, 6, 7, 8, 9] ∨ (kw (tk ch n p) = 41 ∧ ¬ bt ch n (sk ch n (tk ch n p).2.2.2) = 40)) → ∀ s', mXg 1 ch n hf s ((p, o), vs, oup O (4000 * (1 - hf) + c) (1, 0, 0, 0, nI (tk ch n p).2.1), c + 1, B, []) s' → ExM l E w (d + 12) MX10_statement 93 [some (.ref w.1), some (.int (nI (tk ch n p).2.1)), some (.int (kwI (tk ch n p))), none, none] [] s' (fun r s3 => r = none ∧ TE l E w d s3 Q)) : TE l E w d s Q := by
  have hX := h.x
  have ht : tkW n p (tk ch n p) := hX.1.tk hX.2.1.2
  have h14 : (tk ch n p).1 ≤ 4 := ht.1.1
  have hTk : mTk s (tk ch n p) := hX.2.1.1
  have hwd := hX.1.2.1
  have h66 := hX.2.2.1.1
  have h94 : s.1 94 = nI (Bl.length + 1) := h.2.1.1
  have hkw := kw_le (tk ch n p)
  have wr : (¬ (tk ch n p).1 = 1 ∨ kw (tk ch n p) ∈ [0, 2, 5, 10]) → EvM l E w (d + 11) MX10_wrong [.ref w.1] s (fun r s4 => r = none ∧ ((none : Option Value) = none ∧ TE l E w d s4 Q)) := fun z =>
    M_wrong hst hTk ht.1.1 h66 ⟨rfl, rfl, hbad z _ (mFt.told hX.1 ⟨c, hX.2.2.2.2.1.1, Nat.le_refl _⟩ rfl rfl) (by show ¬ (nI (wk (tk ch n p)) : Int32) ≤ 0; unfold wk; split <;> decide)⟩
  refine vX10_textOf_5 ⟨fun z => absurd h66 z, fun _ => pk_lt 0 (Bl.length + 1) (fun _ => bn_eq (Bl.length + 1) 0 (fun _ => ?_) (fun z => by omega) h94 rfl) (fun z => by omega) rfl h94⟩
  refine M_isSign hst (c := 125) hTk ht.1.1 ht.2.1 (by decide) ⟨_, rfl, pk_b (fun _ => ?_) (fun z => absurd z hns)⟩
  refine eX10_statement hst (fun y ey => ?_)
  rw [hTk.2.1] at ey
  subst ey
  refine M_wordHere hst hwd hTk ht.1.1 ht.2.1 ⟨_, rfl, ?_⟩
  refine bn_eq (tk ch n p).1 1 (fun z => wr (Or.inl z)) (fun z1 => ?_) hTk.1 rfl
  refine kwI_is (m := 0) rfl (by omega) (fun z => wr (Or.inr (by rw [z]; decide))) (fun k0 => ?_)
  refine kwI_is (m := 2) rfl (by omega) (fun z => wr (Or.inr (by rw [z]; decide))) (fun k2 => ?_)
  refine kwI_is (m := 5) rfl (by omega) (fun z => wr (Or.inr (by rw [z]; decide))) (fun k5 => ?_)
  refine And.symm (kwI_is (m := 10) rfl (by omega) (fun z => wr (Or.inr (by rw [z]; decide))) (fun k10 => ?_))
  refine MP_order hst (od := (1, 0, 0, 0, nI (tk ch n p).2.1)) hX (by omega) rfl rfl rfl rfl (by show ¬ 1 = 13; omega) (fun s8 h8 _ => ⟨_, rfl, ?_⟩)
  refine kwI_ge11 (fun y1 y2 => ?_) (fun y => kwI_ge (fun y1 => ?_) (fun y1 => ?_))
  · exact hcall z1 (Or.inl ⟨y1, y2⟩) s8 h8
  · exact hrest z1 (Or.inl (by
      have : kw (tk ch n p) = 1 ∨ kw (tk ch n p) = 3 ∨ kw (tk ch n p) = 4 ∨ kw (tk ch n p) = 6 ∨ kw (tk ch n p) = 7 ∨ kw (tk ch n p) = 8 ∨ kw (tk ch n p) = 9 := by omega
      simp only [List.mem_cons, List.not_mem_nil, or_false]; omega)) s8 h8
  · have h41 : kw (tk ch n p) = 41 := by omega
    refine M_isBracket hst h8.1.1 h8.2.1.1.2.2.1 ht.1.2.2.2.2 ⟨_, rfl, pk_b (fun z => hrest z1 (Or.inr ⟨h41, z⟩) s8 h8) (fun z => hcall z1 (Or.inr ⟨h41, z⟩) s8 h8)⟩
end SM
