/-! EXPRESSIONS OF THE MODEL: a token that is none, behind an operand; what counts as done -/
section XE9
variable {l : Launch} {E : EN} {w : MO} {d : Nat} {s s0 s' : MS} {Q : Option Value → MS → Prop} {ch : Nat → Nat} {n hf p p1 p2 p3 o o' c k pl : Nat} {vs : List Nat} {O : Nat → Od} {B : List Tok} {X : List XE} {x : XE} {al : Int32} {q q' : Nat × Nat} {z' : PZ}
theorem sign_bad (hst : l.stackTraces = false) (h : mX ch n hf s0 ((p, o), vs, O, c, B, X) s) (h4 : (tk ch n p).1 = 4) (hk : k < 128) (hQ : ∀ s', mFt ch n hf s0 c 1 (tk ch n p).2.1 s' → ¬ s'.1 66 ≤ 0 → Q none s') : EvM l E w (d + 4) MX10_sign [.ref w.1, .int (nI k)] s Q := by
  have ht := h.1.tk h.2.1.2
  have hwk : wk (tk ch n p) = 1 := if_pos h4
  refine eX10_sign hst ⟨fun _ => M_isSign hst h.2.1.1 ht.1.1 ht.2.1 hk ⟨_, rfl, pk_b (fun z => M_wrong hst h.2.1.1 ht.1.1 h.2.2.1.1 ⟨rfl, ?_⟩) (fun z => absurd (h4.symm.trans z.1) (by decide))⟩, fun q => absurd (by rw [h.2.2.1.1]; decide) q⟩
  have hF := h.flt (k := wk (tk ch n p)) (pl := (tk ch n p).2.1) (wk_le _).1 (wk_le _).2
  rw [hwk] at hF ⊢
  exact hQ _ hF (by show ¬ (1 : Int32) ≤ 0; decide)
theorem ends1_bad (hst : l.stackTraces = false) (h : mX ch n hf s0 ((p, o), vs, O, c, B, x :: X) s) (h4 : (tk ch n p).1 = 4) (hX : X.length < 80) (hn : x.2.2.1 < 9999) (hc : c < 3900) (hQ : ∀ v s', mFt ch n hf s0 (c + 1) 1 (tk ch n p).2.1 s' → ¬ s'.1 66 ≤ 0 → Q (some (.int v)) s') : EvM l E w (d + 6) MX10_ends1 [.ref w.1] s Q := by
  have hb : mX ch n hf s0 ((p, o), vs, O, c, B, xup x :: X) (sA s 97 X.length (s.2.2.1 97 X.length + 1)) := h.bump hn
  obtain ⟨-, -, -, e2⟩ := h.pop
  obtain ⟨hp, g, e, e3⟩ := hb.pop
  have ht := hp.1.tk hp.2.1.2
  have i8 : inB (nI X.length) 80 := inB_n hX
  have to2 : ∀ a2, ExM l E w (d + 6) MX10_ends1 162 [some (.ref w.1), none, some (.int a2), some (.int (bI (decide ((tk ch n p).1 = 3 ∧ (tk ch n p).2.2.1 = 44))))] [] (sA s 97 X.length (s.2.2.1 97 X.length + 1)) Q := fun a2 =>
    vX10_ends1_162 (pk_b (fun _ => ends2_bad hst hb h4 hX hc (fun s' hs' h66 => ⟨1, rfl, rfl, hQ 1 s' hs' h66⟩)) (fun z => absurd (h4.symm.trans z.1) (by decide)))
  refine eX10_ends1 hst ?_
  intro y1 ey1
  rw [e2] at ey1
  subst ey1
  rw [nI_clamp (by omega)]
  refine ⟨i8, i8, i8, fun y2 _ => ?_⟩
  refine M_isSign hst (c := 44) hb.2.1.1 ht.1.1 ht.2.1 (by decide) ⟨_, rfl, ?_⟩
  rw [e3]
  have s41 : ∀ k, k < 128 → EvM l E w (d + 5) MX10_sign [.ref w.1, .int (nI k)] (sI (sA s 97 X.length (s.2.2.1 97 X.length + 1)) 101 (nI X.length)) (fun r s5 => r = none ∧ ((¬ y2 = 4 → Q (some (.int 1)) s5) ∧ (y2 = 4 → (inB (nI X.length) 80 ∧ (EvM l E w (d + 5) MX10_order [.ref w.1, .int 7, .int 0, .int 0, .int (s5.2.2.1 98 X.length)] s5 (fun r s6 => ∃ v7 : Int32, r = some (.int v7) ∧ Q (some (.int 1)) s6)))))) := fun k hk =>
    sign_bad hst hp h4 hk (fun s' hs' h66 => ⟨rfl, ⟨fun _ => hQ 1 s' (hs'.up (by omega)) h66, fun _ => ⟨i8, MP_orderF hst hs' (by omega) (fun s2 y hs2 e66 _ => ⟨_, rfl, hQ 1 s2 hs2 (by rw [e66]; exact h66)⟩)⟩⟩⟩)
  have n7 : ∀ A : Prop, (¬ y2 = 7 → ExM l E w (d + 6) MX10_ends1 162 [some (.ref w.1), none, some (.int y2), some (.int (bI (decide ((tk ch n p).1 = 3 ∧ (tk ch n p).2.2.1 = 44))))] [] (sA s 97 X.length (s.2.2.1 97 X.length + 1)) Q) ∧ (y2 = 7 → ((bI (decide ((tk ch n p).1 = 3 ∧ (tk ch n p).2.2.1 = 44)) = 0 → ExM l E w (d + 6) MX10_ends1 162 [some (.ref w.1), none, some (.int y2), some (.int (bI (decide ((tk ch n p).1 = 3 ∧ (tk ch n p).2.2.1 = 44))))] [] (sA s 97 X.length (s.2.2.1 97 X.length + 1)) Q) ∧ (¬ bI (decide ((tk ch n p).1 = 3 ∧ (tk ch n p).2.2.1 = 44)) = 0 → A))) := fun A =>
    ⟨fun _ => to2 _, fun _ => pk_b (fun _ => to2 _) (fun z => absurd (h4.symm.trans z.1) (by decide))⟩
  refine ⟨fun z => ⟨fun y => absurd z y, fun _ => s41 41 (by decide)⟩, fun z3 => ⟨fun _ => ⟨fun _ => n7 _, fun _ => ⟨i8, ⟨fun _ => n7 _, fun _ => ⟨i8, ⟨fun _ => n7 _, fun _ => ?_⟩⟩⟩⟩⟩, fun z4 => ⟨fun _ => s41 93 (by decide), fun y => absurd y z3⟩⟩⟩
  exact sign_bad hst hb h4 (k := 44) (by decide) (fun s' hs' h66 => ⟨rfl, hQ 0 s' (hs'.up (by omega)) h66⟩)
theorem splitX : ∀ X : List XE, ∃ Y X' : List XE, X = Y ++ X' ∧ (∀ y ∈ Y, y.1 = 1) ∧ ¬ topk X' = 1
  | [] => ⟨[], [], rfl, fun _ h => absurd h (List.not_mem_nil), by decide⟩
  | x :: X => by
    by_cases e : x.1 = 1
    · obtain ⟨Y, X', e1, h1, h2⟩ := splitX X
      refine ⟨x :: Y, X', by rw [e1]; rfl, fun y hy => ?_, h2⟩
      rcases List.mem_cons.mp hy with rfl | hy
      · exact e
      · exact h1 y hy
    · exact ⟨[], x :: X, rfl, fun _ h => absurd h (List.not_mem_nil), e⟩
theorem mX.pend (h : mX ch n hf s0 ((p, o), vs, O, c, B, X) s) (h4 : (tk ch n p).1 = 4) : mFt ch n hf s0 c 1 (tk ch n p).2.1 s :=
  ⟨h.1, ⟨c, h.2.2.2.2.1.1, Nat.le_refl _⟩, Or.inr ⟨rfl, h.2.2.1.1, tk ch n p, h.2.1.1, h4, rfl, (h.1.tk h.2.1.2).2.1⟩⟩
theorem XB_bad (hst : l.stackTraces = false) (h4 : (tk ch n p).1 = 4) (hl : X.length ≤ 74) (hc : c + X.length < 3890) (hn : ∀ x ∈ X, x.2.2.1 < 9999) : XB l E w d al ch n hf s0 (1, 0) ((p, o), vs, O, c, B, X) 1 (tk ch n p).2.1 := by
  intro s0 Q hQ s hs
  have h := mP1' hs
  rw [hv1 (by decide)]
  by_cases hal : al = 0 ∨ ¬ X = []
  · obtain ⟨a, Z, eX, ha, hZ⟩ : ∃ a Z : List XE, X = a ++ Z ∧ (a = [] ∨ ∃ y, a = [y] ∧ y.1 = 2) ∧ ¬ (a = [] ∧ topk Z = 2) := by
      by_cases e : topk X = 2
      · cases X with
        | nil => exact absurd e (by decide)
        | cons x X => exact ⟨[x], X, rfl, Or.inr ⟨x, rfl, e⟩, fun z => List.cons_ne_nil _ _ z.1⟩
      · exact ⟨[], X, rfl, Or.inl rfl, fun z => e z.2⟩
    obtain ⟨Y, X', eZ, hY, hX'⟩ := splitX Z
    subst eZ
    subst eX
    have hlen : a.length + (Y.length + X'.length) ≤ 74 ∧ c + (a.length + (Y.length + X'.length)) < 3890 := by rw [List.length_append, List.length_append] at hl hc; exact ⟨hl, hc⟩
    refine Exp.it1 hst ha h hal (by omega) (by omega) hZ (fun z => absurd (h4.symm.trans z.1) (by decide)) (fun s1 hs1 _ => ?_) (fun s1 hs1 z3 => absurd (h4.symm.trans z3) (by decide))
    refine vX10_expression_152 ⟨fun _ => ?_, fun z => absurd (by decide) z⟩
    refine MP_reduceE hst (r := 0) (by decide) hs1 (by omega) (by rw [List.length_append]; omega) (fun y hy => ⟨hY y hy, Nat.zero_le _⟩) (fun x X'' e z => absurd (by rw [e]; exact z) hX') (fun s2 hs2 => ⟨rfl, ?_⟩)
    refine bn_eq X'.length 0 (fun z => ?_) (fun z => ?_) hs2.len rfl
    · cases X' with
      | nil => exact absurd rfl z
      | cons x X'' =>
        have hx : x.2.2.1 < 9999 := hn x (by rw [List.mem_append, List.mem_append]; exact Or.inr (Or.inr (List.mem_cons_self ..)))
        have hl2 : X''.length + 1 ≤ 74 := by have : (x :: X'').length = X''.length + 1 := rfl; omega
        exact ends1_bad hst hs2 h4 (by omega) hx (by omega) (fun v s' hs' h66 => ⟨v, rfl, hs'.fin h66 (by omega) hQ⟩)
    · exact hQ s2 ((hs2.pend h4).up (by omega))
  · have hal : ¬ al = 0 ∧ X = [] := ⟨fun z => hal (Or.inl z), by by_cases e : X = []; exact e; exact absurd (Or.inr e) hal⟩
    have e101 : s.1 101 = 0 := by have := h.len; rw [hal.2] at this; exact this
    refine vX10_expression_7 ⟨fun z => absurd h.2.2.1.1 z, fun _ => ⟨fun _ => ⟨fun z => absurd z hal.1, fun _ => ⟨fun z => absurd e101 z, fun _ => ?_⟩⟩, fun z => absurd z (by decide)⟩⟩
    exact hQ s ((h.pend h4).up (by omega))
theorem XB_bad0 (hst : l.stackTraces = false) (h4 : (tk ch n p).1 = 4) (hl : X.length ≤ 74) (hc : c < 3900) : XB l E w d al ch n hf s0 (0, 0) ((p, o), vs, O, c, B, X) 1 (tk ch n p).2.1 := by
  have hwk : wk (tk ch n p) = 1 := if_pos h4
  have := XB_start (l := l) (E := E) (w := w) (d := d) (al := al) (hf := hf) (s0 := s0) (o := o) (vs := vs) (O := O) (B := B) hst (show ¬ (tk ch n p).1 = 2 by omega) (show ¬ ((tk ch n p).1 = 3 ∧ ((tk ch n p).2.2.1 = 45 ∨ (tk ch n p).2.2.1 = 33) ∧ ¬ topk X = 2) from fun z => by omega) (fun z => by omega) (fun z => by omega) (fun z => by omega) hl hc
  rw [hwk] at this
  exact this
/-! what counts as done -/
/-- an operand is whole; no [ follows -/
theorem XF_op : XF l E w d al ch n hf s0 (1, 0) ((p, o), vs, O, c, B, X) (2, 4) ((p, o), vs, O, c, B, X) :=
  XF.sub rfl (fun s0 s h => by
    unfold mP
    rw [if_neg (by decide), if_pos rfl]
    exact ⟨[], O, c, ⟨⟨[], [], rfl, Or.inl rfl, fun y hy => absurd hy List.not_mem_nil⟩, by decide⟩, rfl, rfl, mP1' h⟩)
theorem XF_one (hx : x.1 = 2) : XF l E w d al ch n hf s0 (1, 0) ((p, o), vs, O, c, B, x :: X) (2, 4) ((p, o), vs, oup O (4000 * (1 - hf) + c) (odY x), c + 1, B, X) :=
  XF.sub rfl (fun s0 s h => by
    unfold mP
    rw [if_neg (by decide), if_pos rfl]
    exact ⟨[x], O, c, ⟨⟨[x], [], rfl, Or.inr ⟨x, rfl, hx⟩, fun y hy => absurd hy List.not_mem_nil⟩, by show 1 + 4 ≤ 5; decide⟩, rfl, rfl, mP1' h⟩)
/-- what is of a higher level is of a lower one -/
theorem XF_lower {k k' : Nat} (hk : k' ≤ k) : XF l E w d al ch n hf s0 (2, k) ((p, o), vs, O, c, B, X) (2, k') ((p, o), vs, O, c, B, X) :=
  XF.sub rfl (fun s0 s h => by
    unfold mP at h ⊢
    rw [if_neg (show ¬ 2 ≤ 1 by decide), if_pos rfl] at h ⊢
    obtain ⟨Y, O0, c0, ⟨⟨a, Y', e, ha, hY⟩, hl⟩, h2, h3, h4⟩ := h
    exact ⟨Y, O0, c0, ⟨⟨a, Y', e, ha, fun y hy => ⟨(hY y hy).1, Nat.le_trans hk (hY y hy).2⟩⟩, by show Y.length + k' ≤ 5; have : Y.length + k ≤ 5 := hl; omega⟩, h2, h3, h4⟩)
/-- a sign that waited below counts as done too -/
theorem XF_two {k : Nat} (hx : x.1 = 1) (hk : slv x.2.1 = k) : XF l E w d al ch n hf s0 (2, k + 1) ((p, o), vs, O, c, B, x :: X) (2, k) ((p, o), vs, oup O (4000 * (1 - hf) + c) (odY x), c + 1, B, X) :=
  XF.sub rfl (fun s0 s h => by
    unfold mP at h ⊢
    rw [if_neg (show ¬ 2 ≤ 1 by decide), if_pos rfl] at h ⊢
    obtain ⟨Y, O0, c0, ⟨⟨a, Y', e, ha, hY⟩, hl⟩, h2, h3, h4⟩ := h
    have h2 : c = c0 + Y.length := h2
    have h3 : O = oem (4000 * (1 - hf)) O0 c0 Y := h3
    have hl : Y.length + (k + 1) ≤ 5 := hl
    refine ⟨Y ++ [x], O0, c0, ⟨⟨a, Y' ++ [x], by rw [e, List.append_assoc], ha, fun y hy => ?_⟩, by show (Y ++ [x]).length + k ≤ 5; rw [List.length_append]; show Y.length + 1 + k ≤ 5; omega⟩, ?_, ?_, ?_⟩
    · rcases List.mem_append.mp hy with hy | hy
      · exact ⟨(hY y hy).1, Nat.le_trans (Nat.le_succ k) (hY y hy).2⟩
      · rw [List.mem_singleton.mp hy]; exact ⟨hx, by show k ≤ _; omega⟩
    · show c + 1 = c0 + (Y ++ [x]).length
      rw [List.length_append]; show c + 1 = c0 + (Y.length + 1); omega
    · show oup O (4000 * (1 - hf) + c) (odY x) = oem (4000 * (1 - hf)) O0 c0 (Y ++ [x])
      rw [oem_app, ← h3, ← h2]; rfl
    · have : (Y ++ [x]) ++ X = Y ++ x :: X := by rw [List.append_assoc]; rfl
      show mX ch n hf s0 ((p, o), vs, O0, c0, B, (Y ++ [x]) ++ X) s
      rw [this]; exact h4)
/-- a comparison, and another sign of its level -/
theorem XF_cmp (hx : x.1 = 1) (hk : slv x.2.1 = 1) : XF l E w d al ch n hf s0 (2, 2) ((p, o), vs, O, c, B, x :: X) (3, 1) ((p, o), vs, oup O (4000 * (1 - hf) + c) (odY x), c + 1, B, X) :=
  XF.sub rfl (fun s0 s h => by
    unfold mP at h ⊢
    rw [if_neg (show ¬ 2 ≤ 1 by decide), if_pos rfl] at h
    rw [if_neg (by decide), if_neg (by decide)]
    obtain ⟨Y, O0, c0, ⟨hY, hl⟩, h2, h3, h4⟩ := h
    have h2 : c = c0 + Y.length := h2
    have h3 : O = oem (4000 * (1 - hf)) O0 c0 Y := h3
    have hl : Y.length + 2 ≤ 5 := hl
    refine ⟨Y, x, [], O0, c0, ⟨hY, by show (Y ++ [x]).length + 1 ≤ 5; rw [List.length_append]; show Y.length + 1 + 1 ≤ 5; omega⟩, hx, hk, fun u hu => absurd hu List.not_mem_nil, ?_, ?_, ?_⟩
    · show c + 1 = c0 + (Y ++ [x]).length
      rw [List.length_append]; show c + 1 = c0 + (Y.length + 1); omega
    · show oup O (4000 * (1 - hf) + c) (odY x) = oem (4000 * (1 - hf)) O0 c0 (Y ++ [x])
      rw [oem_app, ← h3, ← h2]; rfl
    · have : (Y ++ [x]) ++ X = Y ++ x :: X := by rw [List.append_assoc]; rfl
      show mX ch n hf s0 ((p, o), vs, O0, c0, B, (Y ++ [x]) ++ X) s
      rw [this]; exact h4)
theorem XF_cmp0 (hx : x.1 = 1) : XF l E w d al ch n hf s0 (3, 1) ((p, o), vs, O, c, B, x :: X) (3, 0) ((p, o), vs, oup O (4000 * (1 - hf) + c) (odY x), c + 1, B, X) :=
  XF.sub rfl (fun s0 s h => by
    unfold mP at h ⊢
    rw [if_neg (by decide), if_neg (by decide)] at h ⊢
    obtain ⟨Y1, y, Y2, O0, c0, ⟨hY, hl⟩, h1, h11, h12, h2, h3, h4⟩ := h
    have h2 : c = c0 + (Y1 ++ y :: Y2).length := h2
    have h3 : O = oem (4000 * (1 - hf)) O0 c0 (Y1 ++ y :: Y2) := h3
    have hl : (Y1 ++ y :: Y2).length + 1 ≤ 5 := hl
    have ea : Y1 ++ y :: (Y2 ++ [x]) = (Y1 ++ y :: Y2) ++ [x] := by rw [List.append_assoc]; rfl
    refine ⟨Y1, y, Y2 ++ [x], O0, c0, ⟨hY, ?_⟩, h1, h11, fun u hu => ?_, ?_, ?_, ?_⟩
    · rw [ea, List.length_append]; exact hl
    · rcases List.mem_append.mp hu with hu | hu
      · exact h12 u hu
      · rw [List.mem_singleton.mp hu]; exact hx
    · show c + 1 = c0 + (Y1 ++ y :: (Y2 ++ [x])).length
      rw [ea, List.length_append, h2]; rfl
    · show oup O (4000 * (1 - hf) + c) (odY x) = oem (4000 * (1 - hf)) O0 c0 (Y1 ++ y :: (Y2 ++ [x]))
      rw [ea, oem_app, ← h3, ← h2]; rfl
    · show mX ch n hf s0 ((p, o), vs, O0, c0, B, (Y1 ++ y :: (Y2 ++ [x])) ++ X) s
      rw [ea, List.append_assoc]; exact h4)
theorem XF_cmpL : XF l E w d al ch n hf s0 (3, 1) ((p, o), vs, O, c, B, X) (3, 0) ((p, o), vs, O, c, B, X) :=
  XF.sub rfl (fun s0 s h => by
    unfold mP at h ⊢
    rw [if_neg (by decide), if_neg (by decide)] at h ⊢
    obtain ⟨Y1, y, Y2, O0, c0, ⟨hY, hl⟩, h1⟩ := h
    exact ⟨Y1, y, Y2, O0, c0, ⟨hY, Nat.le_trans (Nat.le_succ _) hl⟩, h1⟩)
end XE9
