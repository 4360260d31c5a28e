/-! EXPRESSIONS OF THE MODEL: steps -/
/-- the token at hand ends an E -/
def okE (q : Nat × Nat) (t : Tok) : Prop := ((q.1 = 2 ∧ lvT t = 9) ∨ (q.1 = 3 ∧ lvT t = 1)) ∧ ¬ (t.1 = 3 ∧ t.2.2.1 = 91)
theorem topk_app {Y X : List XE} (hY : ∀ y ∈ Y, y.1 = 1) (hX : ¬ topk X = 2) : ¬ topk (Y ++ X) = 2 := by
  cases Y with
  | nil => exact hX
  | cons y Y => exact fun z => by have : y.1 = 2 := z; have := hY y (List.mem_cons_self ..); omega
section XE4
variable {l : Launch} {E : EN} {w : MO} {d : Nat} {s s0 s' : MS} {Q : Option Value → MS → Prop} {ch : Nat → Nat} {n hf p p' o o' c k pl : Nat} {vs : List Nat} {O : Nat → Od} {B : List Tok} {X : List XE} {x : XE} {al : Int32} {q q' : Nat × Nat} {z' : PZ}
theorem Exp.it2 (hst : l.stackTraces = false) (hq : okE q (tk ch n p)) (h : mP ch n hf s0 q ((p, o), vs, O, c, B, X) s) (hal : al = 0 ∨ ¬ X = []) (hl : X.length ≤ 75) (hc : c < 3900) (hX : ¬ topk X = 1 ∧ ¬ topk X = 2)
    (hE : ∀ s', mX ch n hf s0 ((p, o), vs, O, c, B, X) s' → (X = [] → Q none s') ∧ (¬ X = [] → EvM l E w (d + 9) MX10_ends1 [.ref w.1] s' (fun r s2 => ∃ v3 : Int32, r = some (.int v3) ∧ Exp l E w d al v3 s2 Q))) : Exp l E w d al 1 s Q := by
  have hX0 : ∀ x X', X = x :: X' → x.1 = 1 → slv x.2.1 < 0 := fun x X' e z => absurd (by rw [e]; exact z) hX.1
  have fin : ∀ s1, mX ch n hf s0 ((p, o), vs, O, c, B, X) s1 → ((¬ (s1.1 101) = 0 → (EvM l E w (d + 9) MX10_ends1 [.ref w.1] s1 (fun r s2 => ∃ v3 : Int32, r = some (.int v3) ∧ Exp l E w d al v3 s2 Q))) ∧ ((s1.1 101) = 0 → Q none s1)) := by
    intro s1 hs1
    have e := hs1.len
    refine bn_eq X.length 0 (fun z => (hE s1 hs1).2 (fun y => z (by rw [y]; rfl))) (fun z => (hE s1 hs1).1 (List.eq_nil_of_length_eq_zero z)) e rfl
  rcases hq with ⟨⟨hq1, hlv⟩ | ⟨hq1, hlv⟩, hb⟩
  · unfold mP at h
    rw [if_neg (by omega), if_pos hq1] at h
    obtain ⟨Y, O0, c0, ⟨⟨a, Y', rfl, ha, hY⟩, hlen⟩, ec, eO, h⟩ := h
    have ec : c = c0 + (a ++ Y').length := ec
    have eO : O = oem (4000 * (1 - hf)) O0 c0 (a ++ Y') := eO
    rw [oem_app] at eO
    rw [List.length_append] at ec hlen
    have h : mX ch n hf s0 ((p, o), vs, O0, c0, B, a ++ (Y' ++ X)) s := by rw [← List.append_assoc]; exact h
    have hYX : (Y' ++ X).length ≤ 80 := by rw [List.length_append]; omega
    refine Exp.it1 hst ha h ?_ (by rw [List.length_append, List.length_append]; omega) (by omega) (fun z => topk_app (fun y hy => (hY y hy).1) hX.2 z.2) hb (fun s1 hs1 _ => ?_) (fun s1 hs1 z3 zv => ?_)
    · rcases hal with e | e
      · exact Or.inl e
      · exact Or.inr (fun z => e (List.append_eq_nil_iff.mp (List.append_eq_nil_iff.mp z).2).2)
    · refine vX10_expression_152 ⟨fun _ => ?_, fun z => absurd (by decide) z⟩
      refine MP_reduceE hst (r := 0) (by decide) hs1 (by omega) hYX (fun y hy => ⟨(hY y hy).1, Nat.zero_le _⟩) hX0 (fun s2 hs2 => ⟨rfl, ?_⟩)
      rw [← eO, show c0 + a.length + Y'.length = c by omega] at hs2
      exact fin s2 hs2
    · have : lvT (tk ch n p) = slv (tk ch n p).2.2.1 := if_pos z3
      have := (sgV_slv zv).1
      omega
  · unfold mP at h
    rw [if_neg (by omega), if_neg (by omega)] at h
    obtain ⟨Y1, y, Y2, O0, c0, ⟨⟨a, Y', rfl, ha, hY⟩, hlen⟩, hy1, hy2, hY2, ec, eO, h⟩ := h
    have ec : c = c0 + (a ++ Y' ++ y :: Y2).length := ec
    have eO : O = oem (4000 * (1 - hf)) O0 c0 (a ++ Y' ++ y :: Y2) := eO
    rw [List.append_assoc, oem_app, oem_app] at eO
    rw [List.length_append, List.length_append, List.length_cons] at ec hlen
    have h : mX ch n hf s0 ((p, o), vs, O0, c0, B, a ++ (Y' ++ (y :: Y2 ++ X))) s := by
      have : a ++ (Y' ++ (y :: Y2 ++ X)) = a ++ Y' ++ y :: Y2 ++ X := by simp only [List.append_assoc]
      rw [this]; exact h
    refine Exp.it1 hst ha h (Or.inr (fun z => ?_)) (by simp only [List.length_append, List.length_cons]; omega) (by omega) (fun z => ?_) hb (fun s1 hs1 z9 => absurd (hlv.symm.trans z9) (by decide)) (fun s1 hs1 z3 zv => ?_)
    · have := (List.append_eq_nil_iff.mp (List.append_eq_nil_iff.mp z).2).2
      cases this
    · cases Y' with
      | nil => have : y.1 = 2 := z.2; omega
      | cons u Y' => have : u.1 = 2 := z.2; have := (hY u (List.mem_cons_self ..)).1; omega
    · have e1 : slv (tk ch n p).2.2.1 = 1 := by rw [← hlv]; exact (if_pos z3).symm
      rw [e1, if_pos rfl]
      refine MP_reduceE hst (r := 2) (by decide) hs1 (by omega) (by simp only [List.length_append, List.length_cons]; omega) hY (fun u X' e zu => by injection e with e _; rw [← e, hy2]; decide) (fun s2 hs2 => ⟨rfl, ?_⟩)
      obtain ⟨-, g, -, eg⟩ := (show mX ch n hf s0 ((p, o), vs, _, _, B, y :: (Y2 ++ X)) s2 from hs2).pop
      have hsg := g.2.2.2.2.2.2.1 hy1
      have hl2 : (Y2 ++ X).length < 80 := by rw [List.length_append]; omega
      refine vX10_expression_152 ⟨fun z => absurd z (by decide), fun _ => ⟨fun z => absurd rfl z, fun _ => ?_⟩⟩
      refine MP_isWaiting hst (k := 1) hs2 (by show (Y2 ++ X).length + 1 ≤ 80; omega) (by decide) (by decide) ⟨_, rfl, pk_b (fun z => absurd hy1 z) (fun _ => ?_)⟩
      rw [eg, nI_clamp (by omega), g.2.1 (by omega)]
      refine ⟨inB_n hl2, MP_levelOf hst (sgV_128 hsg) ⟨_, rfl, ?_⟩⟩
      rw [slvI_V hsg, hy2]
      refine ⟨fun _ => ?_, fun z => absurd rfl z⟩
      refine MP_reduceE hst (r := 0) (by decide) (Y := y :: Y2) hs2 (by show c0 + a.length + Y'.length + (Y2.length + 1) ≤ 4000; omega) (by show (Y2 ++ X).length + 1 ≤ 80; omega) (fun u hu => ⟨?_, Nat.zero_le _⟩) hX0 (fun s3 hs3 => ⟨rfl, ?_⟩)
      · rcases List.mem_cons.mp hu with e | hu
        · rw [e]; exact hy1
        · exact hY2 u hu
      · rw [← eO, show c0 + a.length + Y'.length + (y :: Y2).length = c by rw [List.length_cons]; omega] at hs3
        exact fin s3 hs3
theorem hv1 {q : Nat × Nat} (h : ¬ q.1 = 0) : hv q = 1 := if_neg h
theorem okE.ne {t : Tok} (h : okE q t) : ¬ q.1 = 0 := by rcases h.1 with h | h <;> omega
/-- an E's end in something that is open -/
theorem XF_ends (hst : l.stackTraces = false) (hq : okE q (tk ch n p)) (hl : X.length < 75) (hc : c < 3900) (hx : 3 ≤ x.1) (hE : ∀ s0 Q, (∀ s, mP ch n hf s0 q' z' s → Exp l E w d al (hv q') s Q) → ∀ s, mX ch n hf s0 ((p, o), vs, O, c, B, x :: X) s → EvM l E w (d + 9) MX10_ends1 [.ref w.1] s (fun r s2 => ∃ v3 : Int32, r = some (.int v3) ∧ Exp l E w d al v3 s2 Q)) : XF l E w d al ch n hf s0 q ((p, o), vs, O, c, B, x :: X) q' z' := by
  intro s0 Q hQ s hs
  rw [hv1 hq.ne]
  exact Exp.it2 hst hq hs (Or.inr (by intro z; cases z)) hl hc ⟨fun z => by have : x.1 = 1 := z; omega, fun z => by have : x.1 = 2 := z; omega⟩ (fun s' hs' => ⟨(fun z => absurd z (List.cons_ne_nil _ _)), fun _ => hE s0 Q hQ s' hs'⟩)
theorem XB_ends (hst : l.stackTraces = false) (hq : okE q (tk ch n p)) (hl : X.length < 75) (hc : c < 3900) (hx : 3 ≤ x.1) (hE : ∀ s0 Q, (∀ s, mFt ch n hf s0 3990 k pl s → Q none s) → ∀ s, mX ch n hf s0 ((p, o), vs, O, c, B, x :: X) s → EvM l E w (d + 9) MX10_ends1 [.ref w.1] s (fun r s2 => ∃ v3 : Int32, r = some (.int v3) ∧ Exp l E w d al v3 s2 Q)) : XB l E w d al ch n hf s0 q ((p, o), vs, O, c, B, x :: X) k pl := by
  intro s0 Q hQ s hs
  rw [hv1 hq.ne]
  exact Exp.it2 hst hq hs (Or.inr (by intro z; cases z)) hl hc ⟨fun z => by have : x.1 = 1 := z; omega, fun z => by have : x.1 = 2 := z; omega⟩ (fun s' hs' => ⟨(fun z => absurd z (List.cons_ne_nil _ _)), fun _ => hE s0 Q hQ s' hs'⟩)
/-- the end of an E that is not in brackets -/
theorem Exp.ret (hst : l.stackTraces = false) (hq : okE q (tk ch n p)) (h : mP ch n hf s0 q ((p, o), vs, O, c, B, []) s) (hal : al = 0) (hc : c < 3900) (hQ : ∀ s', mX ch n hf s0 ((p, o), vs, O, c, B, []) s' → Q none s') : Exp l E w d al (hv q) s Q := by
  rw [hv1 hq.ne]
  exact Exp.it2 hst hq h (Or.inl hal) (by decide) hc ⟨by decide, by decide⟩ (fun s' hs' => ⟨fun _ => hQ s' hs', fun z => absurd rfl z⟩)
theorem mFt.fin {cb k pl : Nat} (h : mFt ch n hf s0 cb k pl s) (h66 : ¬ s.1 66 ≤ 0) (hc : cb ≤ 3990) {has : Int32} (hQ : ∀ s, mFt ch n hf s0 3990 k pl s → Q none s) : Exp l E w d al has s Q :=
  Exp.end (fun z => h66 (by rw [z]; decide)) (hQ s (h.up hc))
theorem mP1 {z : PZ} (h : mX ch n hf s0 z s) : mP ch n hf s0 (1, 0) z s := by unfold mP; rw [if_pos (by decide)]; exact h
theorem mP0 {z : PZ} (h : mX ch n hf s0 z s) : mP ch n hf s0 (0, 0) z s := by unfold mP; rw [if_pos (by decide)]; exact h
theorem mP0' {z : PZ} (h : mP ch n hf s0 (0, 0) z s) : mX ch n hf s0 z s := by unfold mP at h; rw [if_pos (by decide)] at h; exact h
theorem mP1' {z : PZ} (h : mP ch n hf s0 (1, 0) z s) : mX ch n hf s0 z s := by unfold mP at h; rw [if_pos (by decide)] at h; exact h
/-- ( E ) -/
theorem XF_group (hst : l.stackTraces = false) (hq : okE q (tk ch n p)) (hl : X.length < 75) (hc : c < 3900) (hx : x.1 = 3) (hn : x.2.2.1 < 9999) (ho : 1 ≤ o) (h3 : (tk ch n p).1 = 3) (h41 : (tk ch n p).2.2.1 = 41) : XF l E w d al ch n hf s0 q ((p, o), vs, O, c, B, x :: X) (1, 0) (((tk ch n p).2.2.2, o - 1), vs, O, c, B, X) :=
  XF_ends hst hq hl hc (by omega) (fun s0 Q hQ s hs => ends1_34 hst hs (Or.inl hx) (by omega) hn hc ho (fun z => absurd ⟨h3, by rw [if_pos hx]; exact h41⟩ z) (fun _ _ _ s' hs' => ⟨1, rfl, hQ s' (mP1 hs')⟩) (fun z => absurd z (by omega)))
theorem XB_group (hst : l.stackTraces = false) (hq : okE q (tk ch n p)) (hl : X.length < 75) (hc : c < 3900) (hx : x.1 = 3) (hn : x.2.2.1 < 9999) (ho : 1 ≤ o) (h3 : ¬ ((tk ch n p).1 = 3 ∧ (tk ch n p).2.2.1 = 41)) : XB l E w d al ch n hf s0 q ((p, o), vs, O, c, B, x :: X) (wk (tk ch n p)) (tk ch n p).2.1 :=
  XB_ends hst hq hl hc (by omega) (fun s0 Q hQ s hs => ends1_34 hst hs (Or.inl hx) (by omega) hn hc ho (fun _ s' hs' h66 => ⟨1, rfl, hs'.fin h66 (by omega) hQ⟩) (fun _ z1 z2 => absurd ⟨z1, z2⟩ h3) (fun z => absurd z (by omega)))
/-- [ E ] -/
theorem XF_place (hst : l.stackTraces = false) (hq : okE q (tk ch n p)) (hl : X.length < 75) (hc : c < 3900) (hx : x.1 = 4) (hn : x.2.2.1 < 9999) (ho : 1 ≤ o) (h3 : (tk ch n p).1 = 3) (h93 : (tk ch n p).2.2.1 = 93) : XF l E w d al ch n hf s0 q ((p, o), vs, O, c, B, x :: X) (1, 0) (((tk ch n p).2.2.2, o - 1), vs, oup O (4000 * (1 - hf) + c) (7, 0, 0, 0, nI x.2.2.2.1), c + 1, B, X) :=
  XF_ends hst hq hl hc (by omega) (fun s0 Q hQ s hs => ends1_34 hst hs (Or.inr hx) (by omega) hn hc ho (fun z => absurd ⟨h3, by rw [if_neg (by omega)]; exact h93⟩ z) (fun z => absurd z (by omega)) (fun _ _ _ s' hs' => ⟨1, rfl, hQ s' (mP1 hs')⟩))
theorem XB_place (hst : l.stackTraces = false) (hq : okE q (tk ch n p)) (hl : X.length < 75) (hc : c < 3900) (hx : x.1 = 4) (hn : x.2.2.1 < 9999) (ho : 1 ≤ o) (h3 : ¬ ((tk ch n p).1 = 3 ∧ (tk ch n p).2.2.1 = 93)) : XB l E w d al ch n hf s0 q ((p, o), vs, O, c, B, x :: X) (wk (tk ch n p)) (tk ch n p).2.1 :=
  XB_ends hst hq hl hc (by omega) (fun s0 Q hQ s hs => ends1_34 hst hs (Or.inr hx) (by omega) hn hc ho (fun _ s' hs' h66 => ⟨1, rfl, hs'.fin h66 (by omega) hQ⟩) (fun z => absurd z (by omega)) (fun _ z1 z2 => absurd ⟨z1, z2⟩ h3))
/-- E , in a literal or a call -/
theorem XF_comma (hst : l.stackTraces = false) (hq : okE q (tk ch n p)) (hl : X.length < 75) (hc : c < 3900) (hx : 5 ≤ x.1) (hx7 : x.1 ≤ 7 ∨ (x.1 = 8 ∧ x.2.1 = 29 ∧ x.2.2.1 = 0)) (ha : ¬ x.1 = 6 → x.2.1 < 30) (hn : x.2.2.1 < 9999) (hm : ¬ (x.1 = 7 ∧ pmst x.2.1 ≤ x.2.2.1 + 1)) (h3 : (tk ch n p).1 = 3) (h44 : (tk ch n p).2.2.1 = 44) : XF l E w d al ch n hf s0 q ((p, o), vs, O, c, B, x :: X) (0, 0) (((tk ch n p).2.2.2, o), vs, O, c, B, xup x :: X) :=
  XF_ends hst hq hl hc (by omega) (fun s0 Q hQ s hs => ends1_c hst hs hx (by omega) hn ha (fun _ _ _ _ s' hs' => ⟨0, rfl, hQ s' (mP0 hs')⟩) (fun z _ _ y => absurd ⟨z, y⟩ hm) (fun _ _ _ _ _ s' hs' => ⟨0, rfl, hQ s' (mP0 hs')⟩) (fun _ _ _ z => absurd ⟨h3, h44⟩ z) (fun z1 z2 => by
    rcases hx7 with y | y
    · exact absurd ⟨h3, h44⟩ (z1 y)
    · exact absurd y.2 (z2 y.1)))
/-- too many -/
theorem XB_many (hst : l.stackTraces = false) (hq : okE q (tk ch n p)) (hl : X.length < 75) (hc : c < 3900) (hx : x.1 = 7) (ha : x.2.1 < 30) (hn : x.2.2.1 < 9999) (hm : pmst x.2.1 ≤ x.2.2.1 + 1) (h3 : (tk ch n p).1 = 3) (h44 : (tk ch n p).2.2.1 = 44) : XB l E w d al ch n hf s0 q ((p, o), vs, O, c, B, x :: X) 5 (tk ch n p).2.1 :=
  XB_ends hst hq hl hc (by omega) (fun s0 Q hQ s hs => ends1_c hst hs (by omega) (by omega) hn (fun _ => ha) (fun _ _ _ z => absurd ⟨hx, hm⟩ z) (fun _ _ _ _ s' hs' h66 => ⟨0, rfl, hs'.fin h66 (by omega) hQ⟩) (fun z => absurd z (by omega)) (fun z => absurd z (by omega)) (fun z => absurd ⟨h3, h44⟩ (z (by omega))))
/-- a fold's first E has no , behind it -/
theorem XB_fold (hst : l.stackTraces = false) (hq : okE q (tk ch n p)) (hl : X.length < 75) (hc : c < 3900) (hx : x.1 = 8) (ha : x.2.1 = 29) (hn : x.2.2.1 = 0) (h3 : ¬ ((tk ch n p).1 = 3 ∧ (tk ch n p).2.2.1 = 44)) : XB l E w d al ch n hf s0 q ((p, o), vs, O, c, B, x :: X) (wk (tk ch n p)) (tk ch n p).2.1 :=
  XB_ends hst hq hl hc (by omega) (fun s0 Q hQ s hs => ends1_c hst hs (by omega) (by omega) (by omega) (fun _ => by omega) (fun z => absurd z (by omega)) (fun z => absurd z (by omega)) (fun _ _ _ z1 z2 => absurd ⟨z1, z2⟩ h3) (fun _ _ _ _ s' hs' h66 => ⟨0, rfl, hs'.fin h66 (by omega) hQ⟩) (fun _ z2 => absurd ⟨ha, hn⟩ (z2 hx)))
/-- [ E , E ] -/
theorem XF_list (hst : l.stackTraces = false) (hq : okE q (tk ch n p)) (hl : X.length < 75) (hc : c < 3900) (hx : x.1 = 5) (ha : x.2.1 < 30) (hn : x.2.2.1 < 9999) (ho : 1 ≤ o) (h3 : (tk ch n p).1 = 3) (h93 : (tk ch n p).2.2.1 = 93) : XF l E w d al ch n hf s0 q ((p, o), vs, O, c, B, x :: X) (1, 0) (((tk ch n p).2.2.2, o - 1), vs, oup O (4000 * (1 - hf) + c) (6, x.2.2.1 + 1, 0, 0, nI x.2.2.2.1), c + 1, B, X) :=
  XF_ends hst hq hl hc (by omega) (fun s0 Q hQ s hs => ends1_c hst hs (by omega) (by omega) hn (fun _ => ha) (fun _ _ z => absurd (h93.symm.trans z) (by decide)) (fun z => absurd z (by omega)) (fun z => absurd z (by omega)) (fun z => absurd z (by omega)) (fun _ _ s1 hs1 => ends2_5 hst hs1 hx (by omega) hc ho (fun z => absurd ⟨h3, h93⟩ z) (fun _ _ s' hs' => ⟨rfl, 1, rfl, hQ s' (mP1 hs')⟩)))
theorem XB_list (hst : l.stackTraces = false) (hq : okE q (tk ch n p)) (hl : X.length < 75) (hc : c < 3900) (hx : x.1 = 5) (ha : x.2.1 < 30) (hn : x.2.2.1 < 9999) (ho : 1 ≤ o) (h3 : ¬ ((tk ch n p).1 = 3 ∧ (tk ch n p).2.2.1 = 93)) (h4 : ¬ ((tk ch n p).1 = 3 ∧ (tk ch n p).2.2.1 = 44)) : XB l E w d al ch n hf s0 q ((p, o), vs, O, c, B, x :: X) (wk (tk ch n p)) (tk ch n p).2.1 :=
  XB_ends hst hq hl hc (by omega) (fun s0 Q hQ s hs => ends1_c hst hs (by omega) (by omega) hn (fun _ => ha) (fun _ z1 z => absurd ⟨z1, z⟩ h4) (fun z => absurd z (by omega)) (fun z => absurd z (by omega)) (fun z => absurd z (by omega)) (fun _ _ s1 hs1 => ends2_5 hst hs1 hx (by omega) hc ho (fun _ s' hs' h66 => ⟨rfl, 1, rfl, hs'.fin h66 (by omega) hQ⟩) (fun z1 z2 => absurd ⟨z1, z2⟩ h3)))
/-- name ( E , E ) -/
theorem XF_call (hst : l.stackTraces = false) (hq : okE q (tk ch n p)) (hl : X.length < 75) (hc : c < 3900) (hB : B.length < 800) (hx : x.1 = 6) (hn : x.2.2.1 < 9999) (ho : 1 ≤ o) (h3 : (tk ch n p).1 = 3) (h41 : (tk ch n p).2.2.1 = 41) : XF l E w d al ch n hf s0 q ((p, o), vs, O, c, B, x :: X) (1, 0) (((tk ch n p).2.2.2, o - 1), vs, oup O (4000 * (1 - hf) + c) (9, 0, x.2.2.1 + 1, 0, nI x.2.2.2.1), c + 1, B ++ [(4000 * (1 - hf) + c, x.2.2.2.2.1, x.2.2.1 + 1, x.2.2.2.2.2)], X) :=
  XF_ends hst hq hl hc (by omega) (fun s0 Q hQ s hs => ends1_c hst hs (by omega) (by omega) hn (fun z => absurd hx z) (fun _ _ z => absurd (h41.symm.trans z) (by decide)) (fun z => absurd z (by omega)) (fun z => absurd z (by omega)) (fun z => absurd z (by omega)) (fun _ _ s1 hs1 => ends2_c hst hs1 (show 6 ≤ x.1 by omega) (by omega) hc ho hB (fun z => absurd hx z) (fun z => absurd (show x.1 = 8 from z) (by omega)) (fun z => absurd ⟨h3, h41⟩ z) (fun z => absurd (show x.1 = 7 from z) (by omega)) (fun _ _ _ s' hs' => ⟨rfl, 1, rfl, hQ s' (mP1 hs')⟩) (fun z => absurd (show x.1 = 7 from z) (by omega)) (fun z => absurd (show x.1 = 8 from z) (by omega))))
/-- no , and no ) -/
theorem XB_call (hst : l.stackTraces = false) (hq : okE q (tk ch n p)) (hl : X.length < 75) (hc : c < 3900) (hB : B.length < 800) (hx : 6 ≤ x.1) (ha : ¬ x.1 = 6 → x.2.1 < 30) (h8 : x.1 = 8 → (x.2.1 = 28 ∨ x.2.1 = 29) ∧ ¬ (x.2.1 = 29 ∧ x.2.2.1 = 0)) (hn : x.2.2.1 < 9999) (ho : 1 ≤ o) (h3 : ¬ ((tk ch n p).1 = 3 ∧ (tk ch n p).2.2.1 = 41)) (h4 : x.1 = 8 ∨ ¬ ((tk ch n p).1 = 3 ∧ (tk ch n p).2.2.1 = 44)) : XB l E w d al ch n hf s0 q ((p, o), vs, O, c, B, x :: X) (wk (tk ch n p)) (tk ch n p).2.1 :=
  XB_ends hst hq hl hc (by omega) (fun s0 Q hQ s hs => ends1_c hst hs (by omega) (by omega) hn ha (fun z7 z1 z => absurd ⟨z1, z⟩ (h4.resolve_left (by omega))) (fun z7 z1 z => absurd ⟨z1, z⟩ (h4.resolve_left (by omega))) (fun z z1 z2 => absurd ⟨z1, z2⟩ (h8 z).2) (fun z z1 z2 => absurd ⟨z1, z2⟩ (h8 z).2) (fun _ _ s1 hs1 => ends2_c hst hs1 hx (by omega) hc ho hB ha (fun z => (h8 z).1) (fun _ s' hs' h66 => ⟨rfl, 1, rfl, hs'.fin h66 (by omega) hQ⟩) (fun _ z1 z2 => absurd ⟨z1, z2⟩ h3) (fun _ z1 z2 => absurd ⟨z1, z2⟩ h3) (fun _ z1 z2 => absurd ⟨z1, z2⟩ h3) (fun _ z1 z2 => absurd ⟨z1, z2⟩ h3)))
/-- a built-in's ) -/
theorem XF_built (hst : l.stackTraces = false) (hq : okE q (tk ch n p)) (hl : X.length < 75) (hc : c < 3900) (hB : B.length < 800) (hx : x.1 = 7) (ha : x.2.1 < 30) (hm : x.2.1 = 5 ∨ x.2.2.1 + 1 = pmst x.2.1) (hn : x.2.2.1 < 9999) (ho : 1 ≤ o) (h3 : (tk ch n p).1 = 3) (h41 : (tk ch n p).2.2.1 = 41) : XF l E w d al ch n hf s0 q ((p, o), vs, O, c, B, x :: X) (1, 0) (((tk ch n p).2.2.2, o - 1), vs, oup O (4000 * (1 - hf) + c) (8, x.2.1, x.2.2.1 + 1, 0, nI x.2.2.2.1), c + 1, B, X) :=
  XF_ends hst hq hl hc (by omega) (fun s0 Q hQ s hs => ends1_c hst hs (by omega) (by omega) hn (fun _ => ha) (fun _ _ z => absurd (h41.symm.trans z) (by decide)) (fun _ _ z => absurd (h41.symm.trans z) (by decide)) (fun z => absurd z (by omega)) (fun z => absurd z (by omega)) (fun _ _ s1 hs1 => ends2_c hst hs1 (show 6 ≤ x.1 by omega) (by omega) hc ho hB (fun _ => ha) (fun z => absurd (show x.1 = 8 from z) (by omega)) (fun z => absurd ⟨h3, h41⟩ z) (fun _ _ _ z1 z2 => absurd (show x.2.1 = 5 ∨ x.2.2.1 + 1 = pmst x.2.1 from hm) (fun y => y.elim z1 z2)) (fun z => absurd (show x.1 = 6 from z) (by omega)) (fun _ _ _ _ s' hs' => ⟨rfl, 1, rfl, hQ s' (mP1 hs')⟩) (fun z => absurd (show x.1 = 8 from z) (by omega))))
theorem XB_few (hst : l.stackTraces = false) (hq : okE q (tk ch n p)) (hl : X.length < 75) (hc : c < 3900) (hB : B.length < 800) (hx : x.1 = 7) (ha : x.2.1 < 30) (hm : ¬ (x.2.1 = 5 ∨ x.2.2.1 + 1 = pmst x.2.1)) (hn : x.2.2.1 < 9999) (ho : 1 ≤ o) (h3 : (tk ch n p).1 = 3) (h41 : (tk ch n p).2.2.1 = 41) : XB l E w d al ch n hf s0 q ((p, o), vs, O, c, B, x :: X) 5 (tk ch n p).2.1 :=
  XB_ends hst hq hl hc (by omega) (fun s0 Q hQ s hs => ends1_c hst hs (by omega) (by omega) hn (fun _ => ha) (fun _ _ z => absurd (h41.symm.trans z) (by decide)) (fun _ _ z => absurd (h41.symm.trans z) (by decide)) (fun z => absurd z (by omega)) (fun z => absurd z (by omega)) (fun _ _ s1 hs1 => ends2_c hst hs1 (show 6 ≤ x.1 by omega) (by omega) hc ho hB (fun _ => ha) (fun z => absurd (show x.1 = 8 from z) (by omega)) (fun z => absurd ⟨h3, h41⟩ z) (fun _ _ _ _ _ s' hs' h66 => ⟨rfl, 1, rfl, hs'.fin h66 (by omega) hQ⟩) (fun z => absurd (show x.1 = 6 from z) (by omega)) (fun _ _ _ z => absurd z hm) (fun z => absurd (show x.1 = 8 from z) (by omega))))
/-- each and fold -/
theorem XF_over (hst : l.stackTraces = false) (hq : okE q (tk ch n p)) (hl : X.length < 75) (hc : c < 3900) (hB : B.length < 800) (hx : x.1 = 8) (ha : x.2.1 = 28 ∨ x.2.1 = 29) (hn : x.2.2.1 < 9999) (hn0 : x.2.1 = 29 → ¬ x.2.2.1 = 0) (ho : 1 ≤ o) (h3 : (tk ch n p).1 = 3) (h41 : (tk ch n p).2.2.1 = 41) : XF l E w d al ch n hf s0 q ((p, o), vs, O, c, B, x :: X) (1, 0) (((tk ch n p).2.2.2, o - 1), vs, oup (oup O (4000 * (1 - hf) + c) (10, x.2.1, 0, 0, nI x.2.2.2.1)) (4000 * (1 - hf) + (c + 1)) (11, x.2.1, 0, 0, nI x.2.2.2.1), c + 1 + 1, B ++ [(4000 * (1 - hf) + (c + 1), x.2.2.2.2.1, if x.2.1 = 28 then 1 else 2, x.2.2.2.2.2)], X) :=
  XF_ends hst hq hl hc (by omega) (fun s0 Q hQ s hs => ends1_c hst hs (by omega) (by omega) hn (fun _ => by omega) (fun z => absurd z (by omega)) (fun z => absurd z (by omega)) (fun _ z1 z2 => absurd z2 (hn0 z1)) (fun _ z1 z2 => absurd z2 (hn0 z1)) (fun _ _ s1 hs1 => ends2_c hst hs1 (show 6 ≤ x.1 by omega) (by omega) hc ho hB (fun _ => show x.2.1 < 30 by omega) (fun _ => ha) (fun z => absurd ⟨h3, h41⟩ z) (fun z => absurd (show x.1 = 7 from z) (by omega)) (fun z => absurd (show x.1 = 6 from z) (by omega)) (fun z => absurd (show x.1 = 7 from z) (by omega)) (fun _ _ _ s' hs' => ⟨rfl, 1, rfl, hQ s' (mP1 hs')⟩)))
end XE4
