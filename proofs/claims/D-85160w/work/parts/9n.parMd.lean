/-! EXPRESSIONS OF THE MODEL: calls begin; a token that is none -/
section XE8
variable {l : Launch} {E : EN} {w : MO} {d : Nat} {s s0 s' : MS} {Q : Option Value → MS → Prop} {ch : Nat → Nat} {n hf p p1 p2 p3 o o' c k pl : Nat} {vs : List Nat} {O : Nat → Od} {B : List Tok} {X : List XE} {x : XE} {al : Int32} {q q' : Nat × Nat} {z' : PZ} {t t1 t2 t3 : Tok}
theorem XF_cname (hst : l.stackTraces = false) (et : tk ch n p = t) (et1 : tk ch n t.2.2.2 = t1) (et2 : tk ch n t1.2.2.2 = t2) (h1 : t.1 = 1) (hw : kw t = 41) (hb : t1.1 = 3 ∧ t1.2.2.1 = 40) (ho : o < 10) (hn : ¬ (t2.1 = 3 ∧ t2.2.2.1 = 41)) (hl : X.length ≤ 74) (hc : c < 3900) (hB : B.length < 800) : XF l E w d al ch n hf s0 (0, 0) ((p, o), vs, O, c, B, X) (0, 0) ((t1.2.2.2, o + 1), vs, O, c, B, (6, 0, 0, t.2.1, t.2.2.1, t.2.1) :: X) := by
  subst et et1 et2
  intro s0 Q hQ s hs
  have h := mP0' hs
  refine call80 hst h h1 (Or.inr ⟨hw, tk_brk.mpr hb⟩) hl hc (beg_core hst h h1 (by omega) hl hc hB (fun z => absurd hb z) (fun _ _ z => absurd z (by omega)) (fun _ _ _ _ s' hs' => ?_) (fun z => absurd z (by omega)) (fun _ z => absurd z (by omega)))
  have ht := hs'.1.tk hs'.2.1.2
  exact M_isSign hst (c := 41) hs'.2.1.1 ht.1.1 ht.2.1 (by decide) ⟨_, rfl, pk_b (fun _ => ⟨0, rfl, Or.inl rfl, hQ s' (mP0 hs')⟩) (fun z => absurd z hn)⟩
theorem XF_cname0 (hst : l.stackTraces = false) (et : tk ch n p = t) (et1 : tk ch n t.2.2.2 = t1) (et2 : tk ch n t1.2.2.2 = t2) (h1 : t.1 = 1) (hw : kw t = 41) (hb : t1.1 = 3 ∧ t1.2.2.1 = 40) (ho : o < 10) (hn : t2.1 = 3 ∧ t2.2.2.1 = 41) (hl : X.length ≤ 74) (hc : c < 3900) (hB : B.length < 800) : XF l E w d al ch n hf s0 (0, 0) ((p, o), vs, O, c, B, X) (1, 0) ((t2.2.2.2, o), vs, oup O (4000 * (1 - hf) + c) (9, 0, 0, 0, nI t.2.1), c + 1, B ++ [(4000 * (1 - hf) + c, t.2.2.1, 0, t.2.1)], X) := by
  subst et et1 et2
  intro s0 Q hQ s hs
  have h := mP0' hs
  refine call80 hst h h1 (Or.inr ⟨hw, tk_brk.mpr hb⟩) hl hc (beg_core hst h h1 (by omega) hl hc hB (fun z => absurd hb z) (fun _ _ z => absurd z (by omega)) (fun _ _ _ _ s' hs' => ?_) (fun z => absurd z (by omega)) (fun _ z => absurd z (by omega)))
  have ht := hs'.1.tk hs'.2.1.2
  refine M_isSign hst (c := 41) hs'.2.1.1 ht.1.1 ht.2.1 (by decide) ⟨_, rfl, pk_b (fun z => absurd hn z) (fun _ => ?_)⟩
  exact ends2_c hst hs' (by show 6 ≤ 6; decide) (by omega) hc (by omega) hB (fun z => absurd rfl z) (fun z => absurd z (by show ¬ 6 = 8; decide)) (fun z => absurd hn z) (fun z => absurd z (by show ¬ 6 = 7; decide)) (fun _ _ _ s2 hs2 => ⟨1, rfl, ⟨fun z => absurd z (by decide), fun _ => ⟨1, rfl, Or.inr rfl, hQ s2 (mP1 hs2)⟩⟩⟩) (fun z => absurd z (by show ¬ 6 = 7; decide)) (fun z => absurd z (by show ¬ 6 = 8; decide))
/-- a word's bracket isn't there, or is one too many -/
theorem XB_word (hst : l.stackTraces = false) (et : tk ch n p = t) (et1 : tk ch n t.2.2.2 = t1) (h1 : t.1 = 1) (hw : 11 ≤ kw t) (hw2 : kw t = 41 → t1.1 = 3 ∧ t1.2.2.1 = 40) (hb : ¬ (t1.1 = 3 ∧ t1.2.2.1 = 40)) (hl : X.length ≤ 74) (hc : c < 3900) (hB : B.length < 800) : XB l E w d al ch n hf s0 (0, 0) ((p, o), vs, O, c, B, X) (wk t1) t1.2.1 := by
  subst et et1
  intro s0 Q hQ s hs
  have h := mP0' hs
  have hk := kw_le (tk ch n p)
  have hne : ¬ kw (tk ch n p) = 41 := fun z => hb (hw2 z)
  exact call80 hst h h1 (Or.inl ⟨hw, by omega⟩) hl hc (beg_core hst h h1 hw hl hc hB (fun _ s' hs' h66 => ⟨0, rfl, Or.inl rfl, hs'.fin h66 (by omega) hQ⟩) (fun z1 z2 => absurd ⟨z1, z2⟩ hb) (fun _ z1 z2 => absurd ⟨z1, z2⟩ hb) (fun _ z1 z2 => absurd ⟨z1, z2⟩ hb) (fun _ _ z1 z2 => absurd ⟨z1, z2⟩ hb))
theorem XB_wdeep (hst : l.stackTraces = false) (et : tk ch n p = t) (et1 : tk ch n t.2.2.2 = t1) (h1 : t.1 = 1) (hw : 11 ≤ kw t) (hb : t1.1 = 3 ∧ t1.2.2.1 = 40) (ho : o = 10) (hl : X.length ≤ 74) (hc : c < 3900) (hB : B.length < 800) : XB l E w d al ch n hf s0 (0, 0) ((p, o), vs, O, c, B, X) 3 t1.2.1 := by
  subst et et1
  intro s0 Q hQ s hs
  have h := mP0' hs
  have hk := kw_le (tk ch n p)
  refine call80 hst h h1 ?_ hl hc (beg_core hst h h1 hw hl hc hB (fun z => absurd hb z) (fun _ _ _ s' hs' h66 => ⟨0, rfl, Or.inl rfl, hs'.fin h66 (by omega) hQ⟩) (fun _ _ _ z => absurd z (by omega)) (fun _ _ _ z => absurd z (by omega)) (fun _ _ _ _ z => absurd z (by omega)))
  by_cases e : kw (tk ch n p) = 41
  · exact Or.inr ⟨e, tk_brk.mpr hb⟩
  · exact Or.inl ⟨hw, by omega⟩
/-- a built-in -/
theorem XF_bname (hst : l.stackTraces = false) (et : tk ch n p = t) (et1 : tk ch n t.2.2.2 = t1) (et2 : tk ch n t1.2.2.2 = t2) (h1 : t.1 = 1) (hw : 11 ≤ kw t) (hw2 : kw t < 39) (hb : t1.1 = 3 ∧ t1.2.2.1 = 40) (ho : o < 10) (hn : ¬ (t2.1 = 3 ∧ t2.2.2.1 = 41)) (hl : X.length ≤ 74) (hc : c < 3900) (hB : B.length < 800) : XF l E w d al ch n hf s0 (0, 0) ((p, o), vs, O, c, B, X) (0, 0) ((t1.2.2.2, o + 1), vs, O, c, B, (7, kw t - 11, 0, t.2.1, t.2.2.1, t.2.1) :: X) := by
  subst et et1 et2
  intro s0 Q hQ s hs
  have h := mP0' hs
  refine call80 hst h h1 (Or.inl ⟨hw, by omega⟩) hl hc (beg_core hst h h1 hw hl hc hB (fun z => absurd hb z) (fun _ _ z => absurd z (by omega)) (fun z => absurd z (by omega)) (fun _ _ _ _ s' hs' => ?_) (fun z => absurd z (by omega)))
  have ht := hs'.1.tk hs'.2.1.2
  exact M_isSign hst (c := 41) hs'.2.1.1 ht.1.1 ht.2.1 (by decide) ⟨_, rfl, pk_b (fun _ => ⟨0, rfl, Or.inl rfl, hQ s' (mP0 hs')⟩) (fun z => absurd z hn)⟩
theorem XF_bname0 (hst : l.stackTraces = false) (et : tk ch n p = t) (et1 : tk ch n t.2.2.2 = t1) (et2 : tk ch n t1.2.2.2 = t2) (h1 : t.1 = 1) (hw : kw t = 16) (hb : t1.1 = 3 ∧ t1.2.2.1 = 40) (ho : o < 10) (hn : t2.1 = 3 ∧ t2.2.2.1 = 41) (hl : X.length ≤ 74) (hc : c < 3900) (hB : B.length < 800) : XF l E w d al ch n hf s0 (0, 0) ((p, o), vs, O, c, B, X) (1, 0) ((t2.2.2.2, o), vs, oup O (4000 * (1 - hf) + c) (8, 5, 0, 0, nI t.2.1), c + 1, B, X) := by
  subst et et1 et2
  intro s0 Q hQ s hs
  have h := mP0' hs
  refine call80 hst h h1 (Or.inl ⟨by omega, by omega⟩) hl hc (beg_core hst h h1 (by omega) hl hc hB (fun z => absurd hb z) (fun _ _ z => absurd z (by omega)) (fun z => absurd z (by omega)) (fun _ _ _ _ s' hs' => ?_) (fun z => absurd z (by omega)))
  rw [hw] at hs'
  have ht := hs'.1.tk hs'.2.1.2
  refine M_isSign hst (c := 41) hs'.2.1.1 ht.1.1 ht.2.1 (by decide) ⟨_, rfl, pk_b (fun z => absurd hn z) (fun _ => ?_)⟩
  exact ends2_c hst hs' (by show 6 ≤ 7; decide) (by omega) hc (by omega) hB (fun _ => by show 5 < 30; decide) (fun z => absurd z (by show ¬ 7 = 8; decide)) (fun z => absurd hn z) (fun _ _ _ z => absurd rfl z) (fun z => absurd z (by show ¬ 7 = 6; decide)) (fun _ _ _ _ s2 hs2 => ⟨1, rfl, ⟨fun z => absurd z (by decide), fun _ => ⟨1, rfl, Or.inr rfl, hQ s2 (mP1 hs2)⟩⟩⟩) (fun z => absurd z (by show ¬ 7 = 8; decide))
theorem XB_bname0 (hst : l.stackTraces = false) (et : tk ch n p = t) (et1 : tk ch n t.2.2.2 = t1) (et2 : tk ch n t1.2.2.2 = t2) (h1 : t.1 = 1) (hw : 11 ≤ kw t) (hw2 : kw t < 39) (hw3 : ¬ kw t = 16) (hb : t1.1 = 3 ∧ t1.2.2.1 = 40) (ho : o < 10) (hn : t2.1 = 3 ∧ t2.2.2.1 = 41) (hl : X.length ≤ 74) (hc : c < 3900) (hB : B.length < 800) : XB l E w d al ch n hf s0 (0, 0) ((p, o), vs, O, c, B, X) 5 t2.2.1 := by
  subst et et1 et2
  intro s0 Q hQ s hs
  have h := mP0' hs
  refine call80 hst h h1 (Or.inl ⟨hw, by omega⟩) hl hc (beg_core hst h h1 hw hl hc hB (fun z => absurd hb z) (fun _ _ z => absurd z (by omega)) (fun z => absurd z (by omega)) (fun _ _ _ _ s' hs' => ?_) (fun z => absurd z (by omega)))
  have ht := hs'.1.tk hs'.2.1.2
  refine M_isSign hst (c := 41) hs'.2.1.1 ht.1.1 ht.2.1 (by decide) ⟨_, rfl, pk_b (fun z => absurd hn z) (fun _ => ?_)⟩
  refine ends2_c hst hs' (by show 6 ≤ 7; decide) (by omega) hc (by omega) hB (fun _ => by show kw _ - 11 < 30; omega) (fun z => absurd z (by show ¬ 7 = 8; decide)) (fun z => absurd hn z) (fun _ _ _ _ _ s2 hs2 h66 => ⟨1, rfl, ⟨fun z => absurd z (by decide), fun _ => ⟨1, rfl, Or.inr rfl, hs2.fin h66 (by omega) hQ⟩⟩⟩) (fun z => absurd z (by show ¬ 7 = 6; decide)) (fun _ _ _ z => absurd z ?_) (fun z => absurd z (by show ¬ 7 = 8; decide))
  show ¬ (kw (tk ch n p) - 11 = 5 ∨ 0 = pmst (kw (tk ch n p) - 11))
  have : 1 ≤ pmst (kw (tk ch n p) - 11) := by unfold pmst; split <;> (try split) <;> omega
  omega
/-- each, fold -/
theorem over_core (hst : l.stackTraces = false) (et : tk ch n p = t) (et1 : tk ch n t.2.2.2 = t1) (et2 : tk ch n t1.2.2.2 = t2) (et3 : tk ch n t2.2.2.2 = t3) (h1 : t.1 = 1) (hw : 39 ≤ kw t) (hw2 : kw t < 41) (hb : t1.1 = 3 ∧ t1.2.2.1 = 40) (ho : o < 10) (hl : X.length ≤ 74) (hc : c < 3900) (hB : B.length < 800) (h : mX ch n hf s0 ((p, o), vs, O, c, B, X) s)
    (hno : ¬ (t2.1 = 1 ∧ kw t2 = 41) → ∀ s', mFt ch n hf s0 c (wk t2) t2.2.1 s' → ¬ s'.1 66 ≤ 0 → Exp l E w d al 0 s' Q)
    (hno2 : t2.1 = 1 → kw t2 = 41 → ¬ (t3.1 = 3 ∧ t3.2.2.1 = 44) → ∀ s', mFt ch n hf s0 c (wk t3) t3.2.1 s' → ¬ s'.1 66 ≤ 0 → Exp l E w d al 0 s' Q)
    (hok : t2.1 = 1 → kw t2 = 41 → t3.1 = 3 → t3.2.2.1 = 44 → ∀ s', mX ch n hf s0 ((t3.2.2.2, o + 1), vs, O, c, B, (8, kw t - 11, 0, t.2.1, t2.2.2.1, t2.2.1) :: X) s' → Exp l E w d al 0 s' Q) : Exp l E w d al 0 s Q := by
  subst et et1 et2 et3
  refine call80 hst h h1 (Or.inl ⟨by omega, by omega⟩) hl hc (beg_core hst h h1 (by omega) hl hc hB (fun z => absurd hb z) (fun _ _ z => absurd z (by omega)) (fun z => absurd z (by omega)) (fun z => absurd z (by omega)) (fun _ _ _ _ _ s' nm hnm hs' => ?_))
  have ht := hs'.1.tk hs'.2.1.2
  refine M_isName hst hs'.1.2.1 hs'.2.1.1 ht.1.1 ht.2.1 ⟨_, rfl, pk_b (fun z => ?_) (fun z => ?_)⟩
  · exact M_wrong hst hs'.2.1.1 ht.1.1 hs'.2.2.1.1 ⟨rfl, MP_signF hst (wk_pos _) ⟨rfl, 0, rfl, Or.inl rfl, hno z _ (hs'.flt (wk_le _).1 (wk_le _).2) (wk_pos _)⟩⟩
  · have en := hnm (Or.inl z.1)
    subst en
    refine MP_take hst hs'.1.1 hs'.2.1.1.2.2.1 ht.1.2.2.2.2 (fun s2 a b => ⟨rfl, ?_⟩)
    have hs2 := hs'.tok a b ht.1.2.2.2.2
    exact MP_sign hst (k := 44) hs2 (by decide) (fun y => absurd y (by decide)) (fun y hF => ⟨rfl, 0, rfl, Or.inl rfl, hno2 z.1 z.2 y _ hF (wk_pos _)⟩) (fun y1 y2 s3 hs3 _ => ⟨rfl, 0, rfl, Or.inl rfl, hok z.1 z.2 y1 y2 s3 hs3⟩)
theorem XF_oname (hst : l.stackTraces = false) (et : tk ch n p = t) (et1 : tk ch n t.2.2.2 = t1) (et2 : tk ch n t1.2.2.2 = t2) (et3 : tk ch n t2.2.2.2 = t3) (h1 : t.1 = 1) (hw : 39 ≤ kw t) (hw2 : kw t < 41) (hb : t1.1 = 3 ∧ t1.2.2.1 = 40) (ho : o < 10) (h2 : t2.1 = 1 ∧ kw t2 = 41) (h3 : t3.1 = 3 ∧ t3.2.2.1 = 44) (hl : X.length ≤ 74) (hc : c < 3900) (hB : B.length < 800) : XF l E w d al ch n hf s0 (0, 0) ((p, o), vs, O, c, B, X) (0, 0) ((t3.2.2.2, o + 1), vs, O, c, B, (8, kw t - 11, 0, t.2.1, t2.2.2.1, t2.2.1) :: X) :=
  fun s0 Q hQ s hs => over_core hst et et1 et2 et3 h1 hw hw2 hb ho hl hc hB (mP0' hs) (fun z => absurd h2 z) (fun _ _ z => absurd h3 z) (fun _ _ _ _ s' hs' => hQ s' (mP0 hs'))
theorem XB_oname (hst : l.stackTraces = false) (et : tk ch n p = t) (et1 : tk ch n t.2.2.2 = t1) (et2 : tk ch n t1.2.2.2 = t2) (h1 : t.1 = 1) (hw : 39 ≤ kw t) (hw2 : kw t < 41) (hb : t1.1 = 3 ∧ t1.2.2.1 = 40) (ho : o < 10) (h2 : ¬ (t2.1 = 1 ∧ kw t2 = 41)) (hl : X.length ≤ 74) (hc : c < 3900) (hB : B.length < 800) : XB l E w d al ch n hf s0 (0, 0) ((p, o), vs, O, c, B, X) (wk t2) t2.2.1 :=
  fun s0 Q hQ s hs => over_core hst et et1 et2 rfl h1 hw hw2 hb ho hl hc hB (mP0' hs) (fun _ s' hs' h66 => hs'.fin h66 (by omega) hQ) (fun z1 z2 => absurd ⟨z1, z2⟩ h2) (fun z1 z2 => absurd ⟨z1, z2⟩ h2)
theorem XB_oname2 (hst : l.stackTraces = false) (et : tk ch n p = t) (et1 : tk ch n t.2.2.2 = t1) (et2 : tk ch n t1.2.2.2 = t2) (et3 : tk ch n t2.2.2.2 = t3) (h1 : t.1 = 1) (hw : 39 ≤ kw t) (hw2 : kw t < 41) (hb : t1.1 = 3 ∧ t1.2.2.1 = 40) (ho : o < 10) (h2 : t2.1 = 1 ∧ kw t2 = 41) (h3 : ¬ (t3.1 = 3 ∧ t3.2.2.1 = 44)) (hl : X.length ≤ 74) (hc : c < 3900) (hB : B.length < 800) : XB l E w d al ch n hf s0 (0, 0) ((p, o), vs, O, c, B, X) (wk t3) t3.2.1 :=
  fun s0 Q hQ s hs => over_core hst et et1 et2 et3 h1 hw hw2 hb ho hl hc hB (mP0' hs) (fun z => absurd h2 z) (fun _ _ _ s' hs' h66 => hs'.fin h66 (by omega) hQ) (fun _ _ z1 z2 => absurd ⟨z1, z2⟩ h3)
/-! a token that is none, behind an operand -/
theorem ends2_bad (hst : l.stackTraces = false) (h : mX ch n hf s0 ((p, o), vs, O, c, B, x :: X) s) (h4 : (tk ch n p).1 = 4) (hX : X.length < 80) (hc : c < 3900) (hQ : ∀ s', mFt ch n hf s0 (c + 1) 1 (tk ch n p).2.1 s' → ¬ s'.1 66 ≤ 0 → Q (some (.int 1)) s') : EvM l E w (d + 5) MX10_ends2 [.ref w.1] s Q := by
  obtain ⟨hp, g, e, e2⟩ := h.pop
  have i8 : inB (nI X.length) 80 := inB_n hX
  have ht := hp.1.tk hp.2.1.2
  have hn3 : ∀ v, ¬ ((tk ch n p).1 = 3 ∧ (tk ch n p).2.2.1 = v) := fun v z => absurd (h4.symm.trans z.1) (by decide)
  have hwk : wk (tk ch n p) = 1 := if_pos h4
  have h108 : ∀ a2, ExM l E w (d + 5) MX10_ends2 108 [some (.ref w.1), some (.int (nI X.length)), some (.int a2)] [] (sI s 101 (nI X.length)) Q := fun a2 =>
    vX10_ends2_108 (eX10_sign hst ⟨fun _ => M_isSign hst (c := 41) hp.2.1.1 ht.1.1 ht.2.1 (by decide) ⟨_, rfl, pk_b (fun z => M_wrong hst hp.2.1.1 ht.1.1 hp.2.2.1.1 ⟨rfl, rfl, ⟨fun q => absurd q (wk_pos _), fun _ => hQ _ (by have := (hp.flt (k := wk (tk ch n p)) (pl := (tk ch n p).2.1) (wk_le _).1 (wk_le _).2).up (Nat.le_succ c); rw [hwk] at this; rw [hwk]; exact this) (wk_pos _)⟩⟩) (fun z => absurd z (hn3 _))⟩, fun q => absurd (by have : (sI s 101 (nI X.length)).1 66 = 0 := hp.2.2.1.1; rw [this]; decide) q⟩)
  refine eX10_ends2 hst ?_
  intro y1 ey1
  rw [e2] at ey1
  subst ey1
  rw [e2, nI_clamp (by omega)]
  refine ⟨i8, fun y2 ey2 => ⟨i8, ⟨fun _ => ⟨i8, ⟨fun _ => h108 _, fun _ => ?_⟩⟩, fun _ => ?_⟩⟩⟩
  · exact M_isSign hst (c := 41) hp.2.1.1 ht.1.1 ht.2.1 (by decide) ⟨_, rfl, pk_b (fun _ => h108 _) (fun z => absurd z (hn3 _))⟩
  · refine eX10_sign hst ⟨fun _ => M_isSign hst (c := 93) hp.2.1.1 ht.1.1 ht.2.1 (by decide) ⟨_, rfl, pk_b (fun z => M_wrong hst hp.2.1.1 ht.1.1 hp.2.2.1.1 ⟨rfl, rfl, i8, ?_⟩) (fun z => absurd z (hn3 _))⟩, fun q => absurd (by have : (sI s 101 (nI X.length)).1 66 = 0 := hp.2.2.1.1; rw [this]; decide) q⟩
    have hF := hp.flt (k := wk (tk ch n p)) (pl := (tk ch n p).2.1) (wk_le _).1 (wk_le _).2
    rw [hwk] at hF ⊢
    exact MP_orderF hst hF (by omega) (fun s' y hs' e66 _ => ⟨_, rfl, hQ s' hs' (by rw [e66]; show ¬ (1 : Int32) ≤ 0; decide)⟩)
end XE8
