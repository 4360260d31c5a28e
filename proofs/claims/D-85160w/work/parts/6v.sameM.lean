/-! THE MODEL: whether two things are the same -/
abbrev JS : List Nat := [112]
theorem zP_inj {a c : List Th} (h : zP a = zP c) : a = c := by
  have := congrArg ze h
  rwa [zl_zP, zl_zP] at this
theorem zR_inj {a c : List Int32} (h : zR a = zR c) : a = c := congrArg zr h
theorem zT_inj {a c : List (List Int32)} (h : zT a = zT c) : a = c := congrArg zt h
noncomputable def same (x y : Th) : Int32 := @ite _ (x = y) (Classical.propDecidable _) 1 0
theorem same_t {x y : Th} (h : x = y) : same x y = 1 := if_pos h
theorem same_f {x y : Th} (h : ¬ x = y) : same x y = 0 := if_neg h
theorem nb0 : narrow .boolean (.int 0) = .int 0 := rfl
theorem nb1 : narrow .boolean (.int 1) = .int 1 := rfl
theorem list_eq_of {a c : List Int32} (hl : a.length = c.length) (h : ∀ i, i < a.length → a.getD i 0 = c.getD i 0) : a = c := by
  refine List.ext_getElem hl (fun i h1 h2 => ?_)
  have := h i h1
  rwa [getD_lt 0 h1, getD_lt 0 h2] at this
theorem list_eq_ofR {a c : List (List Int32)} (hl : a.length = c.length) (h : ∀ i, i < a.length → a.getD i [] = c.getD i []) : a = c := by
  refine List.ext_getElem hl (fun i h1 h2 => ?_)
  have := h i h1
  rwa [getD_lt [] h1, getD_lt [] h2] at this
section MQ
variable {l : Launch} {E : EN} {w : MO} {d : Nat} {s s0 : MS} {Q : Option Value → MS → Prop} {b n md b1 : Nat}
theorem M_sizeR (hst : l.stackTraces = false) {p : Nat} {t : Th} (k : rmT (s.2.2.1 104) b true t p 0) (hb : b ≤ 166300) (hQ : Q (some (.int (nI (zn t)))) s) : EvM l E w d MX10_sizeAt [.ref w.1, .int (nI p)] s Q := by
  have hh := rmT_head k
  exact M_sizeAt hst (by omega) hh.2.2.1 hQ
theorem M_sameRows (hst : l.stackTraces = false) {p q : Nat} {a c : List Int32} (hp : rmT (s.2.2.1 104) b true (zR a) p 0) (hq : rmT (s.2.2.1 104) b true (zR c) q 0) (hb : b ≤ 166300) (hQ : Q (some (.int (same (zR a) (zR c)))) s) : EvM l E w (d + 1) MX10_areSameRows [.ref w.1, .int (nI p), .int (nI q)] s Q := by
  have hp' : rmI (s.2.2.1 104) b p a := hp
  have hq' : rmI (s.2.2.1 104) b q c := hq
  obtain ⟨p1, p2, p3, p4⟩ := hp'
  obtain ⟨q1, q2, q3, q4⟩ := hq'
  have hne : (¬ a = c) → ∀ a4, ExM l E w (d + 1) MX10_areSameRows 22 [some (.ref w.1), some (.int (nI p)), some (.int (nI q)), some (.int 0), some (.int a4)] [] s Q := by
    intro h a4
    rw [same_f (fun e => h (by cases e; rfl))] at hQ
    exact vX10_areSameRows_22 ⟨fun _ => ⟨nb0, hQ⟩, fun c => absurd rfl c⟩
  refine eX10_areSameRows hst (M_sizeR hst hp hb ⟨_, rfl, M_sizeR hst hq hb ⟨_, rfl, bn_eq a.length c.length (fun h => hne (fun e => h (by rw [e])) 0) (fun h => ?_) rfl rfl⟩⟩)
  have main : ∀ m i, i + m = a.length → (∀ j, j < i → a.getD j 0 = c.getD j 0) → ExM l E w (d + 1) MX10_areSameRows 22 [some (.ref w.1), some (.int (nI p)), some (.int (nI q)), some (.int 1), some (.int (nI i))] [] s Q := by
    intro m
    induction m with
    | zero =>
      intro i hi hj
      have hi : i = a.length := hi
      rw [same_t (by rw [list_eq_of h (fun j k => hj j (by omega))])] at hQ
      exact vX10_areSameRows_22 ⟨fun c => absurd c (by decide), fun _ => M_sizeR hst hp hb ⟨_, rfl, pk_le a.length i (fun _ => ⟨nb1, hQ⟩) (fun c => by omega) rfl rfl⟩⟩
    | succ m ih =>
      intro i hi hj
      refine vX10_areSameRows_22 ⟨fun c => absurd c (by decide), fun _ => M_sizeR hst hp hb ⟨_, rfl, pk_le a.length i (fun c => by omega) (fun _ => ?_) rfl rfl⟩⟩
      rw [nI_l2, nI_l2, nI_add, nI_add, nI_clamp (by omega), nI_clamp (by omega), p4 i (by omega), q4 i (by omega), nI_1]
      refine ⟨inB_n (by omega), inB_n (by omega), fun k => hne (fun e => k (by rw [e])) _, fun k => ih (i + 1) (by omega) (fun j hj' => ?_)⟩
      by_cases e : j = i
      · rw [e]; exact k
      · exact hj j (by omega)
  exact main a.length 0 (by omega) (fun j h => absurd h (Nat.not_lt_zero j))
theorem M_plainSame (hst : l.stackTraces = false) {p q : Nat} {x y : Th} (hp : rmT (s.2.2.1 104) b true x p 0) (hq : rmT (s.2.2.1 104) b true y q 0) (hx : zk x < 3) (hxy : zk x = zk y) (hb : b ≤ 166300) (hQ : Q (some (.int (same x y))) s) : EvM l E w (d + 2) MX10_arePlainSame [.ref w.1, .int (nI p), .int (nI q)] s Q := by
  have hh := rmT_head hp
  have hh' := rmT_head hq
  refine eX10_arePlainSame hst ⟨inB_n (by omega), ?_⟩
  rw [nI_clamp (by omega), hh.2.1]
  refine bn_eq (zk x) 1 (fun c => ?_) (fun c => ?_) rfl rfl
  · have ex := zk2 (t := x) (by omega)
    have ey := zk2 (t := y) (by omega)
    rw [ex] at hp hQ
    rw [ey] at hq hQ
    generalize zt x = a at hp hQ
    generalize zt y = c at hq hQ
    have hne : (¬ a = c) → ∀ a4, ExM l E w (d + 2) MX10_arePlainSame 39 [some (.ref w.1), some (.int (nI p)), some (.int (nI q)), some (.int 0), some (.int a4)] [] s Q := by
      intro h a4
      rw [same_f (fun e => h (by cases e; rfl))] at hQ
      exact vX10_arePlainSame_39 ⟨fun _ => ⟨nb0, hQ⟩, fun c => absurd rfl c⟩
    have la : p + 2 + a.length ≤ b := hp.1.1
    have lc : q + 2 + c.length ≤ b := hq.1.1
    refine M_sizeR hst hp hb ⟨_, rfl, M_sizeR hst hq hb ⟨_, rfl, bn_eq a.length c.length (fun h => hne (fun e => h (by rw [e])) 0) (fun h => ?_) rfl rfl⟩⟩
    have main : ∀ m i, i + m = a.length → (∀ j, j < i → a.getD j [] = c.getD j []) → ExM l E w (d + 2) MX10_arePlainSame 39 [some (.ref w.1), some (.int (nI p)), some (.int (nI q)), some (.int 1), some (.int (nI i))] [] s Q := by
      intro m
      induction m with
      | zero =>
        intro i hi hj
        have hi : i = a.length := hi
        rw [same_t (by rw [list_eq_ofR h (fun j k => hj j (by omega))])] at hQ
        exact vX10_arePlainSame_39 ⟨fun c => absurd c (by decide), fun _ => M_sizeR hst hp hb ⟨_, rfl, pk_le a.length i (fun _ => ⟨nb1, hQ⟩) (fun c => by omega) rfl rfl⟩⟩
      | succ m ih =>
        intro i hi hj
        have e1 : zel (zT a) i = zR (a.getD i []) := getD_map zR a [] (zI 0) (by omega)
        have e2 : zel (zT c) i = zR (c.getD i []) := getD_map zR c [] (zI 0) (by omega)
        refine vX10_arePlainSame_39 ⟨fun c => absurd c (by decide), fun _ => M_sizeR hst hp hb ⟨_, rfl, pk_le a.length i (fun c => by omega) (fun _ => ?_) rfl rfl⟩⟩
        refine M_part hst hp hb (show i < a.length by omega) (by show 1 < 2; decide) (by show ¬ zk (zel (zT a) i) = 0; rw [e1]; show ¬ 1 = 0; decide) (fun u hu => ⟨_, rfl, ?_⟩)
        refine M_part hst hq hb (show i < c.length by omega) (by show 1 < 2; decide) (by show ¬ zk (zel (zT c) i) = 0; rw [e2]; show ¬ 1 = 0; decide) (fun u' hu' => ⟨_, rfl, ?_⟩)
        have hu : rmT (s.2.2.1 104) b true (zel (zT a) i) u 0 := hu
        have hu' : rmT (s.2.2.1 104) b true (zel (zT c) i) u' 0 := hu'
        rw [e1] at hu
        rw [e2] at hu'
        refine M_sameRows hst hu hu' hb ⟨_, rfl, ?_⟩
        by_cases e : a.getD i [] = c.getD i []
        · rw [same_t (by rw [e]), nI_1]
          refine ih (i + 1) (by omega) (fun j hj' => ?_)
          by_cases ej : j = i
          · rw [ej]; exact e
          · exact hj j (by omega)
        · rw [same_f (fun z => e (zR_inj z))]
          exact hne (fun z => e (by rw [z])) _
    exact main a.length 0 (by omega) (fun j h => absurd h (Nat.not_lt_zero j))
  · have ex := zk1 c
    have ey := zk1 (t := y) (by omega)
    rw [ex] at hp hQ
    rw [ey] at hq hQ
    refine M_sameRows hst hp hq hb ⟨_, rfl, ?_, hQ⟩
    unfold same
    split
    · exact nb1
    · exact nb0
/-- two packs of one size are looked through from the i-th on, at a level -/
def SamP (l : Launch) (E : EN) (w : MO) (d b : Nat) (Q : Option Value → MS → Prop) (tl : List Th) : Prop :=
  ∀ (tr : List Th), (∀ x ∈ tr, ZW x) → tr.length = tl.length → ∀ (m i k p q : Nat) (s : MS), i + m = tl.length → tl.take i = tr.take i → k + zd (zP tl) ≤ 8 → rmT (s.2.2.1 104) b true (zP tl) p 0 → rmT (s.2.2.1 104) b true (zP tr) q 0 → s.1 112 = nI (k + 1) → s.2.2.1 109 k = nI p → s.2.2.1 110 k = nI q → s.2.2.1 111 k = nI i →
    (tl = tr → ∀ s', mfg JS s s' → s'.1 112 = nI k → (∀ j, j < k → s'.2.2.1 109 j = s.2.2.1 109 j ∧ s'.2.2.1 110 j = s.2.2.1 110 j ∧ s'.2.2.1 111 j = s.2.2.1 111 j) → ExM l E w (d + 3) MX10_areSame 64 [some (.ref w.1), none, none, some (.int 1), none, none, none, none, none] [] s' Q) →
    (tl ≠ tr → ∀ s', mfg JS s s' → ExM l E w (d + 3) MX10_areSame 64 [some (.ref w.1), none, none, some (.int 0), none, none, none, none, none] [] s' Q) →
    ExM l E w (d + 3) MX10_areSame 64 [some (.ref w.1), none, none, some (.int 1), none, none, none, none, none] [] s Q
theorem rmT_pack3 {h : Nat → Int32} {b p : Nat} {x : Th} (k : rmT h b true x p 0) : h p = nI (zk x) := (rmT_head k).2.1
theorem M_samL (hst : l.stackTraces = false) (hb : b ≤ 166300) : ∀ t, ZW t → ∀ tl, t = zP tl → SamP l E w d b Q tl := by
  refine zind (P := fun t => ∀ tl, t = zP tl → SamP l E w d b Q tl) (fun v tl e => by cases e) (fun a _ tl e => by cases e) (fun a _ _ _ tl e => by cases e) ?_
  intro tl hl1 hl2 hl3 IH tl' e
  have e : tl = tl' := zP_inj e
  subst e
  intro tr wtr hlen m
  have hnl : zn (zP tl) = tl.length := by rw [zn_ze, zl_zP]
  have hnr : zn (zP tr) = tr.length := by rw [zn_ze, zl_zP]
  induction m with
  | zero =>
    intro i k p q s hi htk hk hp hq h112 h109 h110 h111 hEq hNe
    have hi : i = tl.length := hi
    rw [List.take_of_length_le (by omega), List.take_of_length_le (by omega)] at htk
    have hz := zd_zP tl
    have hh := rmT_head hp
    refine vX10_areSame_64 ⟨fun c => absurd c (by decide), fun _ => ?_⟩
    rw [h112]
    refine pk_le (k + 1) 0 (fun c => by omega) (fun _ => ?_) rfl rfl
    rw [nI_pred, nI_clamp (by omega), h109, h110, h111]
    refine ⟨inB_n (by omega), fun y1 e1 => ⟨inB_n (by omega), fun y2 e2 => ⟨inB_n (by omega), fun y3 e3 => ?_⟩⟩⟩
    subst e1 e2 e3
    refine M_sizeR hst hp hb ⟨_, rfl, ?_⟩
    rw [hnl]
    refine bn_eq i tl.length (fun c => absurd hi c) (fun _ => hEq htk _ (mfg.sI JS s 112 _) ?_ (fun j _ => ⟨rfl, rfl, rfl⟩)) rfl rfl
    show s.1 112 - 1 = _
    rw [h112, nI_pred]
  | succ m ih =>
    intro i k p q s hi htk hk hp hq h112 h109 h110 h111 hEq hNe
    have hz := zd_zP tl
    have hh := rmT_head hp
    have hh' := rmT_head hq
    rw [hnl] at hh
    rw [hnr] at hh'
    have hpk := rmT_packAt rfl hp (show i < zn (zP tl) by omega)
    have hqk := rmT_packAt rfl hq (show i < zn (zP tr) by omega)
    have hze : zel (zP tl) i = tl.getD i (zI 0) := by show (ze (zP tl)).getD i (zI 0) = _; rw [zl_zP]
    have hze' : zel (zP tr) i = tr.getD i (zI 0) := by show (ze (zP tr)).getD i (zI 0) = _; rw [zl_zP]
    rw [hze] at hpk
    rw [hze'] at hqk
    have hmx : tl.getD i (zI 0) ∈ tl := getD_mem _ (by omega)
    have hmy : tr.getD i (zI 0) ∈ tr := getD_mem _ (by omega)
    have hdx := zd_mem tl _ hmx
    obtain ⟨wxx, hxi⟩ := IH _ hmx
    have wyy := wtr _ hmy
    have htk1 : tl.getD i (zI 0) = tr.getD i (zI 0) → tl.take (i + 1) = tr.take (i + 1) := by
      intro e
      rw [take_succ_getD tl (zI 0) i (by omega), take_succ_getD tr (zI 0) i (by omega), htk, e]
    have hneq : tl.getD i (zI 0) ≠ tr.getD i (zI 0) → tl ≠ tr := fun h e => h (by rw [e])
    generalize tl.getD i (zI 0) = x at hpk hmx hdx wxx hxi htk1 hneq
    generalize tr.getD i (zI 0) = y at hqk hmy wyy htk1 hneq
    have kx := zk_le x
    have ky := zk_le y
    -- the i-th ones are the same
    have nxt : x = y → ∀ s1 : MS, mfg JS s s1 → s1.1 112 = nI (k + 1) → s1.2.2.1 109 k = nI p → s1.2.2.1 110 k = nI q → s1.2.2.1 111 k = nI (i + 1) → (∀ j, j < k → s1.2.2.1 109 j = s.2.2.1 109 j ∧ s1.2.2.1 110 j = s.2.2.1 110 j ∧ s1.2.2.1 111 j = s.2.2.1 111 j) → ExM l E w (d + 3) MX10_areSame 64 [some (.ref w.1), none, none, some (.int 1), none, none, none, none, none] [] s1 Q := by
      intro exy s1 hg g112 g109 g110 g111 gj
      refine ih (i + 1) k p q s1 (by omega) (htk1 exy) hk (by rw [hg.2.2.2 104 (by decide)]; exact hp) (by rw [hg.2.2.2 104 (by decide)]; exact hq) g112 g109 g110 g111 ?_ ?_
      · intro e s2 r1 r2 r3
        exact hEq e s2 (hg.trans r1) r2 (fun j hj => ⟨(r3 j hj).1.trans (gj j hj).1, (r3 j hj).2.1.trans (gj j hj).2.1, (r3 j hj).2.2.trans (gj j hj).2.2⟩)
      · intro e s2 r1
        exact hNe e s2 (hg.trans r1)
    have bad : x ≠ y → ∀ s1 : MS, mfg JS s s1 → ExM l E w (d + 3) MX10_areSame 64 [some (.ref w.1), none, none, some (.int 0), none, none, none, none, none] [] s1 Q := fun h s1 hg => hNe (hneq h) s1 hg
    refine vX10_areSame_64 ⟨fun c => absurd c (by decide), fun _ => ?_⟩
    rw [h112]
    refine pk_le (k + 1) 0 (fun c => by omega) (fun _ => ?_) rfl rfl
    rw [nI_pred, nI_clamp (by omega), h109, h110, h111]
    refine ⟨inB_n (by omega), fun y1 e1 => ⟨inB_n (by omega), fun y2 e2 => ⟨inB_n (by omega), fun y3 e3 => ?_⟩⟩⟩
    subst e1 e2 e3
    refine M_sizeR hst hp hb ⟨_, rfl, ?_⟩
    rw [hnl]
    refine bn_eq i tl.length (fun _ => ?_) (fun c => by omega) rfl rfl
    rw [h112, nI_pred, nI_clamp (by omega), h111, nI_1]
    refine ⟨inB_n (by omega), inB_n (by omega), ?_⟩
    have hg : mfg JS s (sA s 111 k (nI (i + 1))) := mfg.gA JS s _
    have g109 : (sA s 111 k (nI (i + 1))).2.2.1 109 = s.2.2.1 109 := rfl
    have g110 : (sA s 111 k (nI (i + 1))).2.2.1 110 = s.2.2.1 110 := rfl
    have g111 : ∀ j, (sA s 111 k (nI (i + 1))).2.2.1 111 j = if j = k then nI (i + 1) else s.2.2.1 111 j := by
      intro j
      show (if 111 = 111 ∧ j = k then _ else _) = _
      by_cases h : j = k <;> simp [h]
    have gh : (sA s 111 k (nI (i + 1))).2.2.1 104 = s.2.2.1 104 := rfl
    have g112 : (sA s 111 k (nI (i + 1))).1 112 = nI (k + 1) := h112
    generalize sA s 111 k (nI (i + 1)) = s6 at hg g109 g110 g111 gh g112
    have gk : s6.2.2.1 111 k = nI (i + 1) := by rw [g111, if_pos rfl]
    have gj : ∀ j, j < k → s6.2.2.1 109 j = s.2.2.1 109 j ∧ s6.2.2.1 110 j = s.2.2.1 110 j ∧ s6.2.2.1 111 j = s.2.2.1 111 j := fun j hj => ⟨by rw [g109], by rw [g110], by rw [g111, if_neg (by omega)]⟩
    have nxt6 : x = y → ExM l E w (d + 3) MX10_areSame 64 [some (.ref w.1), none, none, some (.int 1), none, none, none, none, none] [] s6 Q := fun e => nxt e s6 hg g112 (by rw [g109]; exact h109) (by rw [g110]; exact h110) gk gj
    have bad6 : x ≠ y → ExM l E w (d + 3) MX10_areSame 64 [some (.ref w.1), none, none, some (.int 0), none, none, none, none, none] [] s6 Q := fun e => bad e s6 hg
    have isx : ∀ Q' : Option Value → MS → Prop, (zk x = 0 → Q' (some (.int 1)) s6) → (¬ zk x = 0 → Q' (some (.int 0)) s6) → EvM l E w (d + 2) MX10_isInt [.ref w.1, .int (nI p), .int (nI i)] s6 Q' := by
      intro Q' c0 c1
      refine M_isInt hst (by omega) (fun c => ?_) (fun c => ?_)
      · rw [gh] at c
        rcases hpk.2 with ⟨a1, _⟩ | ⟨a1, a2, _⟩
        · exact c0 a1
        · rw [a2] at c; exact absurd c (by decide)
      · rw [gh] at c
        rcases hpk.2 with ⟨a1, a2, _⟩ | ⟨a1, _⟩
        · exact absurd a2 c
        · exact c1 a1
    have isy : ∀ Q' : Option Value → MS → Prop, (zk y = 0 → Q' (some (.int 1)) s6) → (¬ zk y = 0 → Q' (some (.int 0)) s6) → EvM l E w (d + 2) MX10_isInt [.ref w.1, .int (nI q), .int (nI i)] s6 Q' := by
      intro Q' c0 c1
      refine M_isInt hst (by omega) (fun c => ?_) (fun c => ?_)
      · rw [gh] at c
        rcases hqk.2 with ⟨a1, _⟩ | ⟨a1, a2, _⟩
        · exact c0 a1
        · rw [a2] at c; exact absurd c (by decide)
      · rw [gh] at c
        rcases hqk.2 with ⟨a1, a2, _⟩ | ⟨a1, _⟩
        · exact absurd a2 c
        · exact c1 a1
    refine isx _ (fun x0 => ⟨_, rfl, fun _ => ?_, fun c => absurd c (by decide)⟩) (fun x0 => ⟨_, rfl, fun c => absurd rfl c, fun _ => ?_⟩)
    · -- an INT
      refine isx _ (fun _ => ⟨_, rfl, fun c => absurd c (by decide), fun _ => ?_⟩) (fun c => absurd x0 c)
      refine isy _ (fun y0 => ⟨_, rfl, fun c => absurd c (by decide), fun _ => ?_⟩) (fun y0 => ⟨_, rfl, fun _ => bad6 (fun e => y0 (by rw [← e]; exact x0)), fun c => absurd rfl c⟩)
      rw [nI_l3, nI_l3, nI_m2, nI_add, nI_add, nI_clamp (by omega), nI_clamp (by omega), gh]
      have vx : s.2.2.1 104 (p + 3 + 2 * i) = zv x := by
        rcases hpk.2 with ⟨_, _, a3⟩ | ⟨a1, _⟩
        · exact a3
        · exact absurd x0 a1
      have vy : s.2.2.1 104 (q + 3 + 2 * i) = zv y := by
        rcases hqk.2 with ⟨_, _, a3⟩ | ⟨a1, _⟩
        · exact a3
        · exact absurd y0 a1
      rw [vx, vy]
      refine ⟨inB_n (by omega), inB_n (by omega), fun c => bad6 (fun e => c (by rw [e])), fun c => nxt6 ?_⟩
      rw [zk0 x0, zk0 y0, c]
    · -- no INT
      refine isy _ (fun y0 => ⟨_, rfl, fun c => absurd c (by decide), fun _ => ?_⟩) (fun y0 => ⟨_, rfl, fun _ => ?_, fun c => absurd rfl c⟩)
      · exact isx _ (fun c => absurd c x0) (fun _ => ⟨_, rfl, fun _ => bad6 (fun e => x0 (by rw [e]; exact y0)), fun c => absurd rfl c⟩)
      · obtain ⟨u, hu1, hu⟩ : ∃ u, s.2.2.1 104 (p + 3 + 2 * i) = nI u - nI p ∧ rmT (s.2.2.1 104) b true x u 0 := by
          rcases hpk.2 with ⟨a1, _⟩ | ⟨_, _, u, a3, a4⟩
          · exact absurd a1 x0
          · exact ⟨u, a3, a4⟩
        obtain ⟨u', hu1', hu'⟩ : ∃ u, s.2.2.1 104 (q + 3 + 2 * i) = nI u - nI q ∧ rmT (s.2.2.1 104) b true y u 0 := by
          rcases hqk.2 with ⟨a1, _⟩ | ⟨_, _, u, a3, a4⟩
          · exact absurd a1 y0
          · exact ⟨u, a3, a4⟩
        have ux := rmT_head hu
        have uy := rmT_head hu'
        refine M_partP hst (by rw [gh]; exact hh.2.1) (by omega) (by rw [gh]; exact hu1) ⟨_, rfl, ?_⟩
        refine M_partP hst (by rw [gh]; exact hh'.2.1) (by omega) (by rw [gh]; exact hu1') ⟨_, rfl, inB_n (by omega), inB_n (by omega), ?_⟩
        rw [nI_clamp (by omega), nI_clamp (by omega), gh, ux.2.1, uy.2.1]
        -- a level deeper, whatever is found
        have goIn : ∀ (a3 : Int32) (Q3 : ∀ s9 : MS, mfg JS s6 s9 → s9.1 112 = nI (k + 1 + 1) → s9.2.2.1 109 (k + 1) = nI u → s9.2.2.1 110 (k + 1) = nI u' → s9.2.2.1 111 (k + 1) = nI 0 → (∀ j, j < k + 1 → s9.2.2.1 109 j = s6.2.2.1 109 j ∧ s9.2.2.1 110 j = s6.2.2.1 110 j ∧ s9.2.2.1 111 j = s6.2.2.1 111 j) → ExM l E w (d + 3) MX10_areSame 64 [some (.ref w.1), none, none, some (.int a3), none, none, none, none, none] [] s9 Q), k + 1 < 8 → EvM l E w (d + 2) MX10_goesIn [.ref w.1, .int (nI u), .int (nI u')] s6 (fun r s18 => r = none ∧ ExM l E w (d + 3) MX10_areSame 64 [some (.ref w.1), none, none, some (.int a3), none, none, none, none, none] [] s18 Q) := by
          intro a3 Q3 hk8
          refine eX10_goesIn hst ?_
          rw [g112, nI_clamp (by omega), nI_1]
          refine ⟨inB_n (by omega), inB_n (by omega), inB_n (by omega), rfl, Q3 _ ((((mfg.gA JS s6 _).trans (mfg.gA JS _ _)).trans (mfg.gA JS _ _)).trans (mfg.sI JS _ 112 _)) rfl (by simp [sI, sA]) (by simp [sI, sA]) (by simp [sI, sA]; rfl) (fun j hj => ?_)⟩
          have hj' : ¬ j = k + 1 := by omega
          exact ⟨by simp [sI, sA, hj'], by simp [sI, sA, hj'], by simp [sI, sA, hj']⟩
        refine bn_eq (zk x) (zk y) (fun c => ⟨inB_n (by omega), bn_eq (zk x) 3 (fun _ => bad6 (fun e => c (by rw [e]))) (fun c3 => ?_) rfl rfl⟩) (fun c => ⟨inB_n (by omega), bn_eq (zk x) 3 (fun c3 => ?_) (fun c3 => ?_) rfl rfl⟩) rfl rfl
        · have hzx : 1 ≤ zd x := by
            match x, c3 with
            | .branch a s' e, _ =>
              rcases zcases wxx with ⟨v, h⟩ | ⟨a, h, h1⟩ | ⟨a, h, h1, h2, h3⟩ | ⟨tx, h, h1, h2, h3, h4⟩
              · cases h
              · cases h
              · cases h
              · rw [h, zd_zP]; omega
          exact goIn 0 (fun s9 r1 _ _ _ _ _ => bad (fun e => c (by rw [e])) s9 (hg.trans r1)) (by omega)
        · refine M_plainSame hst (by rw [gh]; exact hu) (by rw [gh]; exact hu') (by omega) c hb ⟨_, rfl, ?_⟩
          by_cases e : x = y
          · rw [same_t e]
            refine ⟨fun c => absurd c (by decide), fun _ => ⟨inB_n (by omega), ?_⟩⟩
            rw [gh, ux.2.1]
            exact bn_eq (zk x) 3 (fun _ => nxt6 e) (fun z => absurd z c3) rfl rfl
          · rw [same_f e]
            refine ⟨fun _ => ⟨inB_n (by omega), ?_⟩, fun c => absurd rfl c⟩
            rw [gh, ux.2.1]
            exact bn_eq (zk x) 3 (fun _ => bad6 e) (fun z => absurd z c3) rfl rfl
        · -- two packs
          rcases zcases wxx with ⟨v, h⟩ | ⟨a, h, h1⟩ | ⟨a, h, h1, h2, h3⟩ | ⟨tx, ex, h1, h2, h3, h4⟩
          · rw [h] at c3; exact absurd c3 (by show ¬ 0 = 3; decide)
          · rw [h] at c3; exact absurd c3 (by show ¬ 1 = 3; decide)
          · rw [h] at c3; exact absurd c3 (by show ¬ 2 = 3; decide)
          rcases zcases wyy with ⟨v, h⟩ | ⟨a, h, h1'⟩ | ⟨a, h, h1', h2', h3'⟩ | ⟨ty, ey, h1', h2', h3', h4'⟩
          · rw [h] at c; exact absurd (c3.symm.trans c) (by show ¬ 3 = 0; decide)
          · rw [h] at c; exact absurd (c3.symm.trans c) (by show ¬ 3 = 1; decide)
          · rw [h] at c; exact absurd (c3.symm.trans c) (by show ¬ 3 = 2; decide)
          have nx : zn x = tx.length := by rw [ex, zn_ze, zl_zP]
          have ny : zn y = ty.length := by rw [ey, zn_ze, zl_zP]
          have hdp : zd x = zd (zsp tx) + 1 := by rw [ex, zd_zP]
          refine M_sizeR hst (by rw [gh]; exact hu) hb ⟨_, rfl, M_sizeR hst (by rw [gh]; exact hu') hb ⟨_, rfl, ?_⟩⟩
          rw [nx, ny]
          refine bn_eq tx.length ty.length (fun cl => ⟨inB_n (by omega), ?_⟩) (fun cl => ⟨inB_n (by omega), ?_⟩) rfl rfl
          · rw [gh, ux.2.1]
            refine bn_eq (zk x) 3 (fun z => absurd c3 z) (fun _ => goIn 0 (fun s9 r1 _ _ _ _ _ => bad (fun e => cl ?_) s9 (hg.trans r1)) (by omega)) rfl rfl
            rw [ex, ey] at e
            rw [zP_inj e]
          · rw [gh, ux.2.1]
            refine bn_eq (zk x) 3 (fun z => absurd c3 z) (fun _ => goIn 1 (fun s9 r1 r2 r3 r4 r5 r6 => ?_) (by omega)) rfl rfl
            have s9h : s9.2.2.1 104 = s.2.2.1 104 := by rw [r1.2.2.2 104 (by decide), gh]
            refine hxi tx ex ty h4' cl.symm tx.length 0 (k + 1) u u' s9 (by omega) (by rw [List.take_zero, List.take_zero]) (by rw [zd_zP]; omega) (by rw [s9h, ← ex]; exact hu) (by rw [s9h, ← ey]; exact hu') r2 r3 r4 r5 ?_ ?_
            · intro e s10 t1 t2 t3
              refine nxt (by rw [ex, ey, e]) s10 ((hg.trans r1).trans t1) t2 ?_ ?_ ?_ (fun j hj => ⟨?_, ?_, ?_⟩)
              · rw [(t3 k (by omega)).1, (r6 k (by omega)).1, g109]; exact h109
              · rw [(t3 k (by omega)).2.1, (r6 k (by omega)).2.1, g110]; exact h110
              · rw [(t3 k (by omega)).2.2, (r6 k (by omega)).2.2]; exact gk
              · rw [(t3 j (by omega)).1, (r6 j (by omega)).1]; exact (gj j hj).1
              · rw [(t3 j (by omega)).2.1, (r6 j (by omega)).2.1]; exact (gj j hj).2.1
              · rw [(t3 j (by omega)).2.2, (r6 j (by omega)).2.2]; exact (gj j hj).2.2
            · intro e s10 t1
              exact bad (fun z => e (by rw [ex, ey] at z; exact zP_inj z)) s10 ((hg.trans r1).trans t1)
end MQ
