/-! THE MODEL'S STATEMENTS: N = E, N [E] = E, N [E] [E] = E -/
section SR6
variable {l : Launch} {E : EN} {w : MO} {d : Nat} {ch : Nat → Nat} {n hf : Nat} {s00 s s0 s1 s' sd : MS} {k pl p p1 p' o o' c c1 c' cb a t kd : Nat} {vs vs1 vs' : List Nat} {O O1 O' : Nat → Od} {B B1 B' : List Tok} {X : List XE} {bk : BE} {Bl : List BE} {Fn : List FE} {q' : Nat × Nat} {al : Int32} {Q : Option Value → MS → Prop} {R : MS → Prop} {x1 x2 x3 x4 : Int32}
theorem MP_put13 (hst : l.stackTraces = false) {b : Nat} {np fp x3 : Int32} (h : mXg 1 ch n hf s0 ((p, o), vs, O, c, B, X) s) (hc : c < 4000) (e3 : x3 = if b = 0 then -1 else nI (b - 1))
    (hR : ∀ s', mXg 1 ch n hf s0 ((p, o), vs, oup O (4000 * (1 - hf) + c) (13, a, b, np, fp), c + 1, B, X) s' → R s') : EvM l E w d MX10_order [.ref w.1, .int 13, .int (nI a), .int x3, .int fp] s (fun r s13 => ∃ v14 : Int32, r = some (.int v14) ∧ (inB v14 8000 ∧ R (sA s13 83 v14.toNatClampNeg np))) := by
  obtain ⟨h1, h2, h3, h4, h5, h6, h7⟩ := h
  refine eX10_order hst ?_
  have hh := h1.2.2.2.1
  have h51 : s.1 85 = nI c := h5.1
  intro y ey
  rw [h1.2.2.1, base_eq hh, h51, nI_add] at ey
  have hy : y.toNatClampNeg = 4000 * (1 - hf) + c := by rw [ey, nI_clamp (by omega)]
  have hi : inB y 8000 := by rw [ey]; exact inB_n (by omega)
  refine ⟨hi, hi, hi, hi, hi, y, rfl, hi, ?_⟩
  rw [hy]
  obtain ⟨s', es⟩ : ∃ s', s' = sI (sA (sA (sA (sA (sA s 80 (4000 * (1 - hf) + c) 13) 81 (4000 * (1 - hf) + c) (nI a)) 82 (4000 * (1 - hf) + c) x3) 83 (4000 * (1 - hf) + c) 0) 84 (4000 * (1 - hf) + c) fp) 85 (s.1 85 + 1) := ⟨_, rfl⟩
  rw [← es]
  obtain ⟨g1, g2, g3, g4, g5, g6⟩ := sO5 s _ _ _ _ _ _ s' es
  have q83 : ∀ j i, (¬ j = 83 ∨ ¬ i = 4000 * (1 - hf) + c) → (sA s' 83 (4000 * (1 - hf) + c) np).2.2.1 j i = s'.2.2.1 j i := fun j i hj => sA_ne s' np (fun z => by omega)
  have q2 : ∀ j i, (j ∉ [80, 81, 82, 83, 84] ∨ ¬ i = 4000 * (1 - hf) + c) → (sA s' 83 (4000 * (1 - hf) + c) np).2.2.1 j i = s.2.2.1 j i := fun j i hj => (q83 j i (by
    rcases hj with z | z
    · exact Or.inl (fun y => z (by rw [y]; decide))
    · exact Or.inr z)).trans (g2 j i hj)
  have nm : ∀ {j : Nat} {L : List Nat}, j ∈ L → (∀ q ∈ L, q ∉ [80, 81, 82, 83, 84]) → j ∉ [80, 81, 82, 83, 84] := fun hj hL => hL _ hj
  refine hR _ ⟨h1.fr ⟨fun j hj => g6 j (fun z => hj (by rw [z]; decide)), fun j _ => by show s'.2.1 j = _; rw [g4], fun j hj => funext fun i => q2 j i (Or.inl (fun z => hj (by revert z; unfold AX; simp only [List.mem_cons, List.not_mem_nil, or_false]; omega))), fun j _ => by show s'.2.2.2 j = _; rw [g3], fun j i hi _ => q2 j i (Or.inr (by omega))⟩, ⟨⟨(g6 62 (by decide)).trans h2.1.1, (g6 63 (by decide)).trans h2.1.2.1, (g6 65 (by decide)).trans h2.1.2.2.1, fun z => by show s'.2.1 64 = _; rw [g4]; exact h2.1.2.2.2.1 z, fun z => by show s'.2.1 64 = _; rw [g4]; exact h2.1.2.2.2.2 z⟩, h2.2⟩, ⟨(g6 66 (by decide)).trans h3.1, (g6 68 (by decide)).trans h3.2.1, h3.2.2⟩, fun q => (h4 q).cg (g6 79 (by decide)) (fun i _ => by show s'.2.2.2 78 i = _; rw [g3]), ⟨?_, fun i hi1 hi2 => ?_⟩, h6.up1.cg (g6 86 (by decide)) (fun j hj i _ => q2 j i (Or.inl (nm hj (by decide)))) (fun i _ => by show s'.2.2.2 90 i = _; rw [g3]), fun q => (h7 q).cg (g6 101 (by decide)) (fun j hj i _ => q2 j i (Or.inl (nm hj (by decide)))) (fun i _ => by show s'.2.2.2 99 i = _; rw [g3])⟩
  · show s'.1 85 = _
    rw [g5, h51]; exact (nI_succ c).symm
  · by_cases e : i = 4000 * (1 - hf) + c
    · subst e
      rw [show (((p, o), vs, oup O (4000 * (1 - hf) + c) (13, a, b, np, fp), c + 1, B, X) : PZ).2.2.1 (4000 * (1 - hf) + c) = (13, a, b, np, fp) from oup_at _ _ _]
      refine ⟨(q83 80 _ (Or.inl (by decide))).trans g1.1, (q83 81 _ (Or.inl (by decide))).trans g1.2.1, (q83 82 _ (Or.inl (by decide))).trans (g1.2.2.1.trans e3), fun _ => sA_at _ _ _ _, (q83 84 _ (Or.inl (by decide))).trans g1.2.2.2⟩
    · rw [show (((p, o), vs, oup O (4000 * (1 - hf) + c) (13, a, b, np, fp), c + 1, B, X) : PZ).2.2.1 i = O i from oup_ne _ _ e]
      have hi2' : i < 4000 * (1 - hf) + (c + 1) := hi2
      exact (h5.2 i hi1 (by show i < 4000 * (1 - hf) + c; omega)).cg (fun j _ => q2 j i (Or.inr e))
theorem tF_put13 (hst : l.stackTraces = false) {nb : Nat} {np x2 x3 fp : Int32} (h : tF hf s00 cb nb k pl s) (hc : cb < 3999) (hR : ∀ s', tF hf s00 (cb + 1) nb k pl s' → R s') : EvM l E w d MX10_order [.ref w.1, .int 13, .int x2, .int x3, .int fp] s (fun r s13 => ∃ v14 : Int32, r = some (.int v14) ∧ (inB v14 8000 ∧ R (sA s13 83 v14.toNatClampNeg np))) :=
  tF_order hst h hc (fun c' s' hc' h' _ => ⟨_, rfl, inB_n (by have := h.2.2.2.2.2; omega), by rw [nI_clamp (by omega)]; exact hR _ (h'.patch (by decide) (by omega))⟩)
theorem tF.upc {nb cb' : Nat} (h : tF hf s00 cb nb k pl s) (hc : cb ≤ cb') : tF hf s00 cb' nb k pl s := by
  obtain ⟨h1, h2, ⟨c', e, h3⟩, h4⟩ := h
  exact ⟨h1, h2, ⟨c', e, by omega⟩, h4⟩
/-- = E ; and what is given to it -/
def EqS (l : Launch) (E : EN) (w : MO) (d : Nat) (s : MS) (W : MS → Prop) : Prop := EvM l E w d MX10_sign [.ref w.1, .int 61] s (fun r s10 => r = none ∧ (EvM l E w d MX10_expression [.ref w.1, .int 0] s10 (fun r s11 => r = none ∧ (EvM l E w d MX10_sign [.ref w.1, .int 59] s11 (fun r s12 => r = none ∧ W s12)))))
theorem eq_flt (hst : l.stackTraces = false) {nb : Nat} {W : MS → Prop} (h : tF hf s00 cb nb k pl s) (hW : ∀ s', tF hf s00 cb nb k pl s' → W s') : EqS l E w (d + 10) s W :=
  tF_sign hst h ⟨rfl, tF_expr hst h (fun s2 h2 => ⟨rfl, tF_sign hst h2 ⟨rfl, hW s2 h2⟩⟩)⟩
/-- what = E ; comes to: a fault (k, pl), or the place behind it -/
def EqR (l : Launch) (E : EN) (w : MO) (d : Nat) (ch : Nat → Nat) (n hf : Nat) (sd : MS) (p o : Nat) (vs : List Nat) (O : Nat → Od) (c : Nat) (B : List Tok) (F : Nat → Nat → Prop) (G : Nat → List Nat → (Nat → Od) → Nat → List Tok → Prop) : Prop :=
  (¬ ((tk ch n p).1 = 3 ∧ (tk ch n p).2.2.1 = 61) → F (wk (tk ch n p)) (tk ch n p).2.1) ∧ ((tk ch n p).1 = 3 → (tk ch n p).2.2.1 = 61 → (∃ k pl, XB l E w d 0 ch n hf sd (0, 0) (((tk ch n p).2.2.2, o), vs, O, c, B, []) k pl ∧ F k pl) ∨
    (∃ q' p1 vs1 O1 c1 B1, XF l E w d 0 ch n hf sd (0, 0) (((tk ch n p).2.2.2, o), vs, O, c, B, []) q' ((p1, o), vs1, O1, c1, B1, []) ∧ okE q' (tk ch n p1) ∧ c1 < 3900 ∧ (¬ ((tk ch n p1).1 = 3 ∧ (tk ch n p1).2.2.1 = 59) → F (wk (tk ch n p1)) (tk ch n p1).2.1) ∧ ((tk ch n p1).1 = 3 → (tk ch n p1).2.2.1 = 59 → G (tk ch n p1).2.2.2 vs1 O1 c1 B1)))
theorem eq_go (hst : l.stackTraces = false) {W : MS → Prop} {F : Nat → Nat → Prop} {G : Nat → List Nat → (Nat → Od) → Nat → List Tok → Prop} (hT : mfT hf s00 s0) {nb : Nat} (h94 : s0.1 94 = nI nb) (h : mXg 1 ch n hf s0 ((p, o), vs, O, c, B, []) s) (hc : c < 3900) (hr : EqR l E w d ch n hf sd p o vs O c B F G) (hF : ∀ k pl, F k pl → ∀ s', tF hf s00 3990 nb k pl s' → W s') (hG : ∀ p1 vs1 O1 c1 B1, c1 < 3900 → G p1 vs1 O1 c1 B1 → ∀ s', mXg 1 ch n hf s0 ((p1, o), vs1, O1, c1, B1, []) s' → W s') : EqS l E w (d + 10) s W := by
  by_cases c61 : (tk ch n p).1 = 3 ∧ (tk ch n p).2.2.1 = 61
  · refine MP_sign hst (k := 61) h (by decide) (fun z => absurd z (by decide)) (fun z => absurd c61 z) (fun _ _ s2 h2 _ => ⟨rfl, ?_⟩)
    rw [if_neg (by decide)] at h2
    rcases hr.2 c61.1 c61.2 with ⟨k, pl, hx, hf'⟩ | ⟨q', p1, vs1, O1, c1, B1, hx, hq, hc1, hn, hg⟩
    · exact XE_bad hst hx h2 (fun s3 h3 => ⟨rfl, mFt_sign hst (x := 59) (by decide) h3 (fun s4 h4 h66 => ⟨rfl, hF k pl hf' s4 (h4.tF h66 hT h94)⟩)⟩)
    · refine XE_ok hst hx hq hc1 h2 (fun s3 h3 => ⟨rfl, ?_⟩)
      by_cases c59 : (tk ch n p1).1 = 3 ∧ (tk ch n p1).2.2.1 = 59
      · refine MP_sign hst (k := 59) h3 (by decide) (fun z => absurd z (by decide)) (fun z => absurd c59 z) (fun _ _ s4 h4 _ => ⟨rfl, ?_⟩)
        rw [if_neg (by decide)] at h4
        exact hG _ _ _ _ _ hc1 (hg c59.1 c59.2) s4 h4
      · exact mFt_no hst h3 (by decide) (fun z => absurd z (by decide)) c59 (fun s4 h4 h66 => ⟨rfl, hF _ _ (hn c59) s4 ((h4.tF h66 hT h94).upc (by omega))⟩)
  · exact mFt_no hst h (by decide) (fun z => absurd z (by decide)) c61 (fun s2 h2 h66 => ⟨rfl, tF_expr hst ((h2.tF h66 hT h94).upc (cb' := 3990) (by omega)) (fun s3 h3 => ⟨rfl, tF_sign hst h3 ⟨rfl, hF _ _ (hr.1 c61) s3 h3⟩⟩)⟩)
/-- [ E ] -/
def IxR (l : Launch) (E : EN) (w : MO) (d : Nat) (ch : Nat → Nat) (n hf : Nat) (sd : MS) (p o : Nat) (vs : List Nat) (O : Nat → Od) (c : Nat) (B : List Tok) (F : Nat → Nat → Prop) (G : Nat → List Nat → (Nat → Od) → Nat → List Tok → Prop) : Prop :=
  (o = 10 → F 3 (tk ch n p).2.1) ∧ (o < 10 → (∃ k pl, XB l E w d 0 ch n hf sd (0, 0) (((tk ch n p).2.2.2, o + 1), vs, O, c, B, []) k pl ∧ F k pl) ∨
    (∃ q' p1 vs1 O1 c1 B1, XF l E w d 0 ch n hf sd (0, 0) (((tk ch n p).2.2.2, o + 1), vs, O, c, B, []) q' ((p1, o + 1), vs1, O1, c1, B1, []) ∧ okE q' (tk ch n p1) ∧ c1 < 3900 ∧ (¬ ((tk ch n p1).1 = 3 ∧ (tk ch n p1).2.2.1 = 93) → F (wk (tk ch n p1)) (tk ch n p1).2.1) ∧ ((tk ch n p1).1 = 3 → (tk ch n p1).2.2.1 = 93 → G (tk ch n p1).2.2.2 vs1 O1 c1 B1)))
theorem ix_go (hst : l.stackTraces = false) {W : MS → Prop} {F : Nat → Nat → Prop} {G : Nat → List Nat → (Nat → Od) → Nat → List Tok → Prop} (hT : mfT hf s00 s0) {nb : Nat} (h94 : s0.1 94 = nI nb) (h : mXg 1 ch n hf s0 ((p, o), vs, O, c, B, []) s) (hc : c < 3900) (h91 : (tk ch n p).1 = 3 ∧ (tk ch n p).2.2.1 = 91) (hr : IxR l E w d ch n hf sd p o vs O c B F G) (hF : ∀ k pl, F k pl → ∀ s', tF hf s00 3990 nb k pl s' → W s') (hG : ∀ p1 vs1 O1 c1 B1, c1 < 3900 → G p1 vs1 O1 c1 B1 → ∀ s', mXg 1 ch n hf s0 ((p1, o), vs1, O1, c1, B1, []) s' → W s') : EvM l E w (d + 10) MX10_opens [.ref w.1, .int 91] s (fun r s7 => r = none ∧ (EvM l E w (d + 10) MX10_expression [.ref w.1, .int 0] s7 (fun r s8 => r = none ∧ (EvM l E w (d + 10) MX10_sign [.ref w.1, .int 93] s8 (fun r s9 => r = none ∧ W s9))))) := by
  refine MP_opens hst (k := 91) h (by decide) (fun z => absurd h91 z) (fun _ _ z s2 h2 _ h66 => ⟨rfl, tF_expr hst ((h2.tF h66 hT h94).upc (cb' := 3990) (by omega)) (fun s3 h3 => ⟨rfl, tF_sign hst h3 ⟨rfl, hF _ _ (hr.1 z) s3 h3⟩⟩)⟩) (fun _ _ z s2 h2 => ⟨rfl, ?_⟩)
  rcases hr.2 z with ⟨k, pl, hx, hf'⟩ | ⟨q', p1, vs1, O1, c1, B1, hx, hq, hc1, hn, hg⟩
  · exact XE_bad hst hx h2 (fun s3 h3 => ⟨rfl, mFt_sign hst (x := 93) (by decide) h3 (fun s4 h4 h66 => ⟨rfl, hF k pl hf' s4 (h4.tF h66 hT h94)⟩)⟩)
  · refine XE_ok hst hx hq hc1 h2 (fun s3 h3 => ⟨rfl, ?_⟩)
    by_cases c93 : (tk ch n p1).1 = 3 ∧ (tk ch n p1).2.2.1 = 93
    · refine MP_sign hst (k := 93) h3 (by decide) (fun _ => by omega) (fun z => absurd c93 z) (fun _ _ s4 h4 _ => ⟨rfl, ?_⟩)
      rw [if_pos (by decide), Nat.add_sub_cancel] at h4
      exact hG _ _ _ _ _ hc1 (hg c93.1 c93.2) s4 h4
    · exact mFt_no hst h3 (by decide) (fun _ => by omega) c93 (fun s4 h4 h66 => ⟨rfl, hF _ _ (hn c93) s4 ((h4.tF h66 hT h94).upc (by omega))⟩)
/-- an assignment -/
theorem T_put (hst : l.stackTraces = false) (h : mTt ch n hf s00 (((p, o), vs, O, c, B), bk :: Bl, Fn) s) (h1 : (tk ch n p).1 = 1) (hk : kw (tk ch n p) = 41) (hb : ¬ bt ch n (sk ch n (tk ch n p).2.2.2) = 40) (hc : c < 3850) (hbl : Bl.length ≤ 9) {t : Tok} (et : tk ch n p = t) {vs1 : List Nat} (ev : vs1 = nmV vs t.2.2.1) {O1 : Nat → Od} (eO : O1 = oup O (4000 * (1 - hf) + c) (1, 0, 0, 0, nI t.2.1))
    (hfull : (¬ (1 ≤ t.2.2.1 ∧ t.2.2.1 ≤ 8) ∧ nix vs t.2.2.1 = 14) → ∀ s', mTF hf s00 3 t.2.1 s' → Q none s')
    (hplain : ¬ (¬ (1 ≤ t.2.2.1 ∧ t.2.2.1 ≤ 8) ∧ nix vs t.2.2.1 = 14) → ¬ ((tk ch n t.2.2.2).1 = 3 ∧ (tk ch n t.2.2.2).2.2.1 = 91) → EqR l E w d ch n hf sd t.2.2.2 o vs1 O1 (c + 1) B (fun k pl => ∀ s', mTF hf s00 k pl s' → Q none s') (fun p' vs' O' c' B' => ∀ s', mTt ch n hf s00 (((p', o), vs', oup O' (4000 * (1 - hf) + c') (12, nmN vs t.2.2.1, 0, 0, nI t.2.1), c' + 1, B'), bk :: Bl, Fn) s' → TE l E w d s' Q))
    (hix : ¬ (¬ (1 ≤ t.2.2.1 ∧ t.2.2.1 ≤ 8) ∧ nix vs t.2.2.1 = 14) → (tk ch n t.2.2.2).1 = 3 → (tk ch n t.2.2.2).2.2.1 = 91 → IxR l E w d ch n hf sd t.2.2.2 o vs1 O1 (c + 1) B (fun k pl => ∀ s', mTF hf s00 k pl s' → Q none s') (fun p2 vs2 O2 c2 B2 =>
      (¬ ((tk ch n p2).1 = 3 ∧ (tk ch n p2).2.2.1 = 91) → EqR l E w d ch n hf sd p2 o vs2 O2 c2 B2 (fun k pl => ∀ s', mTF hf s00 k pl s' → Q none s') (fun p' vs' O' c' B' => ∀ s', mTt ch n hf s00 (((p', o), vs', oup O' (4000 * (1 - hf) + c') (13, nmN vs t.2.2.1, 0, nI t.2.1, nI (tk ch n t.2.2.2).2.1), c' + 1, B'), bk :: Bl, Fn) s' → TE l E w d s' Q)) ∧
      ((tk ch n p2).1 = 3 → (tk ch n p2).2.2.1 = 91 → IxR l E w d ch n hf sd p2 o vs2 O2 c2 B2 (fun k pl => ∀ s', mTF hf s00 k pl s' → Q none s') (fun p3 vs3 O3 c3 B3 => EqR l E w d ch n hf sd p3 o vs3 O3 c3 B3 (fun k pl => ∀ s', mTF hf s00 k pl s' → Q none s') (fun p' vs' O' c' B' => ∀ s', mTt ch n hf s00 (((p', o), vs', oup O' (4000 * (1 - hf) + c') (13, nmN vs t.2.2.1, (tk ch n p2).2.1 + 1, nI t.2.1, nI (tk ch n t.2.2.2).2.1), c' + 1, B'), bk :: Bl, Fn) s' → TE l E w d s' Q))))) : TE l E w d s Q := by
  subst et
  subst ev
  subst eO
  have hlen : (bk :: Bl).length = Bl.length + 1 := rfl
  have hT := h.ft
  have h94 : s.1 94 = nI (Bl.length + 1) := h.n94
  refine st_core hst h (fun z => by omega) (by omega) (by omega) (fun z => ?_) (fun z1 z2 => by omega) (fun _ _ s8 h8 => ?_)
  · simp only [List.mem_cons, List.not_mem_nil, or_false] at z
    omega
  refine vX10_statement_93 (kwI_ge (fun z => by omega) (fun _ => ?_))
  refine eX10_puts hst (fun y1 ey1 => ?_)
  rw [h8.2.1.1.2.1] at ey1
  subst ey1
  refine M_nm hst h8 (fun z => absurd ⟨h1, hk⟩ z) (fun _ _ z s2 h2 h66 => ⟨_, rfl, fun y => absurd y h66, fun _ => ⟨rfl, rfl, (h2.tF h66 hT h94).fin (hfull z)⟩⟩) (fun _ _ z s2 h2 => ⟨_, rfl, fun _ => ?_, fun y => absurd (by rw [h2.2.2.1.1]; decide) y⟩)
  have ht2 := h2.1.tk h2.2.1.2
  have ff : ∀ {cb nb k pl : Nat} {s' : MS}, (∀ s', mTF hf s00 k pl s' → Q none s') → tF hf s00 cb nb k pl s' → (none : Option Value) = none ∧ ((none : Option Value) = none ∧ TE l E w d s' Q) := fun hQ h' => ⟨rfl, rfl, h'.fin hQ⟩
  refine M_isSign hst (c := 91) h2.2.1.1 ht2.1.1 ht2.2.1 (by decide) ⟨_, rfl, bn_b (fun z91 => ?_) (fun z91 => ?_)⟩
  · exact eq_go (W := fun s33 => EvM l E w (d + 10) MX10_order [.ref w.1, .int 12, .int (nI (nmN vs (tk ch n p).2.2.1)), .int 0, .int (nI (tk ch n p).2.1)] s33 (fun r s34 => ∃ v35 : Int32, r = some (.int v35) ∧ ((none : Option Value) = none ∧ ((none : Option Value) = none ∧ TE l E w d s34 Q)))) hst hT h94 h2 (by omega) (hplain z z91) (fun k pl hQ s' h' => tF_order hst h' (by omega) (fun _ s3 _ h3 _ => ⟨_, rfl, ff hQ h3⟩)) (fun p1 vs1 O1 c1 B1 hc1 hG s' h' => MP_order hst (od := (12, nmN vs (tk ch n p).2.2.1, 0, 0, nI (tk ch n p).2.1)) h' (by omega) rfl rfl rfl rfl (by show ¬ 12 = 13; omega) (fun s3 h3 _ => ⟨_, rfl, rfl, rfl, hG s3 (h.of h3)⟩))
  · intro y6 ey6
    rw [h2.2.1.1.2.1] at ey6
    subst ey6
    have tl13 : ∀ {x : Int32} {s' : MS} {cb nb k pl : Nat}, (∀ s', mTF hf s00 k pl s' → Q none s') → cb < 3999 → tF hf s00 cb nb k pl s' → EvM l E w (d + 10) MX10_order [.ref w.1, .int 13, .int (nI (nmN vs (tk ch n p).2.2.1)), .int x, .int (nI (tk ch n (tk ch n p).2.2.2).2.1)] s' (fun r s13 => ∃ v14 : Int32, r = some (.int v14) ∧ (inB v14 8000 ∧ ((none : Option Value) = none ∧ ((none : Option Value) = none ∧ TE l E w d (sA s13 83 v14.toNatClampNeg (nI (tk ch n p).2.1)) Q)))) := fun hQ hcb h' => tF_put13 (R := fun s' => (none : Option Value) = none ∧ ((none : Option Value) = none ∧ TE l E w d s' Q)) hst h' hcb (fun s3 h3 => ff hQ h3)
    refine ix_go hst hT h94 h2 (by omega) z91 (hix z z91.1 z91.2) (fun k pl hQ s' h' => ⟨fun _ => ?_, fun y => absurd y h'.ne⟩) (fun p2 vs2 O2 c2 B2 hc2 hG s' h' => ⟨fun y => absurd h'.2.2.1.1 y, fun _ => ?_⟩)
    · exact eq_flt hst h' (fun s3 h3 => tl13 hQ (by omega) h3)
    · have ht3 := h'.1.tk h'.2.1.2
      refine M_isSign hst (c := 91) h'.2.1.1 ht3.1.1 ht3.2.1 (by decide) ⟨_, rfl, pk_b (fun z2 => ?_) (fun z2 => ?_)⟩
      · exact eq_go hst hT h94 h' (by omega) (hG.1 z2) (fun k pl hQ s3 h3 => tl13 hQ (by omega) h3) (fun p1 vs1 O1 c1 B1 hc1 hG2 s3 h3 => MP_put13 (b := 0) (R := fun s' => (none : Option Value) = none ∧ ((none : Option Value) = none ∧ TE l E w d s' Q)) hst h3 (by omega) rfl (fun s4 h4 => ⟨rfl, rfl, hG2 s4 (h.of h4)⟩))
      · intro y22 ey22
        rw [h'.2.1.1.2.1] at ey22
        subst ey22
        refine ix_go hst hT h94 h' (by omega) z2 (hG.2 z2.1 z2.2) (fun k pl hQ s3 h3 => eq_flt hst h3 (fun s4 h4 => tl13 hQ (by omega) h4)) (fun p3 vs3 O3 c3 B3 hc3 hG3 s3 h3 => ?_)
        exact eq_go hst hT h94 h3 (by omega) hG3 (fun k pl hQ s4 h4 => tl13 hQ (by omega) h4) (fun p1 vs1 O1 c1 B1 hc1 hG4 s4 h4 => MP_put13 (b := (tk ch n p2).2.1 + 1) (R := fun s' => (none : Option Value) = none ∧ ((none : Option Value) = none ∧ TE l E w d s' Q)) hst h4 (by omega) (by rw [if_neg (by omega)]; rfl) (fun s5 h5 => ⟨rfl, rfl, hG4 s5 (h.of h5)⟩))
end SR6
