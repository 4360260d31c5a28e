def mfN (s s' : MS) : Prop := mfO s s' ∧ (∀ j, s'.2.2.1 109 j = s.2.2.1 109 j ∧ s'.2.2.1 111 j = s.2.2.1 111 j) ∧ s'.1 112 = s.1 112
theorem mfN.rf (s : MS) : mfN s s := ⟨mfO.rf s, fun _ => ⟨rfl, rfl⟩, rfl⟩
theorem mfN.trans {s s' s'' : MS} (h : mfN s s') (k : mfN s' s'') : mfN s s'' := ⟨h.1.trans k.1, fun j => ⟨(k.2.1 j).1.trans (h.2.1 j).1, (k.2.1 j).2.trans (h.2.1 j).2⟩, k.2.2.trans h.2.2⟩
theorem mfO.h {s s' : MS} (k : mfO s s') : s'.2.2.1 104 = s.2.2.1 104 := k.2.2.2 104 (by decide)
theorem zsep_snoc (c : Int32) (x : List Int32) : ∀ l : List (List Int32), l ≠ [] → zsep c (l ++ [x]) = zsep c l ++ c :: x
  | [], h => absurd rfl h
  | [a], _ => rfl
  | a :: y :: r, _ => by
    show a ++ c :: zsep c (y :: r ++ [x]) = a ++ c :: zsep c (y :: r) ++ c :: x
    rw [zsep_snoc c x (y :: r) (by simp), List.append_assoc]; rfl
section MO8
variable {l : Launch} {E : EN} {w : MO} {d : Nat} {s s0 : MS} {Q : Option Value → MS → Prop} {b n md b1 : Nat} {out : List Int32}
theorem N_says {K : MS → Prop} (hst : l.stackTraces = false) {c : Int32} (ho : mOut s out) (hl : out.length + 1 < 2 ^ 31) (hQ : ∀ s', mfN s s' → mOut s' (out ++ [c]) → K s') : EvM l E w d MX10_says [.ref w.1, .int c] s (fun r s' => r = none ∧ K s') := M_says hst ho hl (fun s' q1 q2 q3 q4 => hQ s' ⟨q1, q2, q3⟩ q4)
theorem N_number {K : MS → Prop} (hst : l.stackTraces = false) {v : Int32} (ho : mOut s out) (hl : out.length + (znum v).length < 2 ^ 31) (hQ : ∀ s', mfN s s' → mOut s' (out ++ znum v) → K s') : EvM l E w (d + 1) MX10_number [.ref w.1, .int v] s (fun r s' => r = none ∧ K s') := M_number hst ho hl (fun s' q1 q2 q3 q4 => hQ s' ⟨q1, q2, q3⟩ q4)
theorem M_formRow {K : MS → Prop} (hst : l.stackTraces = false) {p : Nat} {a : List Int32} (hr : rmT (s.2.2.1 104) b true (zR a) p 0) (hb : b ≤ 166300) (ho : mOut s out) (hl : out.length + (zfrow a).length < 2 ^ 31) (hQ : ∀ s', mfN s s' → mOut s' (out ++ zfrow a) → K s') : EvM l E w (d + 2) MX10_formOfRow [.ref w.1, .int (nI p)] s (fun r s' => r = none ∧ K s') := by
  have hr' : rmI (s.2.2.1 104) b p a := hr
  obtain ⟨h1, h2, h3, h4⟩ := hr'
  have ez : zfrow a = 91 :: zsep 32 (a.map znum) ++ [93] := rfl
  have hmono : ∀ i, (zsep 32 ((a.take i).map znum)).length ≤ (zsep 32 (a.map znum)).length := by
    have : ∀ (l r : List (List Int32)), (zsep 32 l).length ≤ (zsep 32 (l ++ r)).length := by
      intro l r
      induction r generalizing l with
      | nil => rw [List.append_nil]; exact Nat.le_refl _
      | cons x r ih =>
        have h := ih (l ++ [x])
        rw [List.append_assoc] at h
        refine Nat.le_trans ?_ h
        by_cases e : l = []
        · rw [e]; exact Nat.zero_le _
        · rw [zsep_snoc 32 x l e, List.length_append]; exact Nat.le_add_right ..
    intro i
    have := this ((a.take i).map znum) ((a.drop i).map znum)
    rwa [← List.map_append, List.take_append_drop] at this
  rw [ez, List.length_append, List.length_cons] at hl
  have hl : out.length + ((zsep 32 (a.map znum)).length + 1 + 1) < 2 ^ 31 := hl
  refine eX10_formOfRow hst (N_says hst ho (by omega) (fun s1 q1 q2 => ?_))
  have main : ∀ m i (s' : MS), i + m = a.length → mfN s s' → mOut s' (out ++ 91 :: zsep 32 ((a.take i).map znum)) → ExM l E w (d + 2) MX10_formOfRow 8 [some (.ref w.1), some (.int (nI p)), some (.int (nI i))] [] s' (fun r s' => r = none ∧ K s') := by
    intro m
    induction m with
    | zero =>
      intro i s' hi hf ho'
      have hi : i = a.length := hi
      rw [List.take_of_length_le (by omega)] at ho'
      refine vX10_formOfRow_8 (M_sizeAt hst (by omega) (by rw [hf.1.h]; exact h3) ⟨_, rfl, pk_le a.length i (fun _ => N_says hst ho' ?_ (fun s2 r1 r2 => ⟨rfl, hQ s2 (hf.trans r1) ?_⟩)) (fun c => by omega) rfl rfl⟩)
      · rw [List.length_append, List.length_cons]; omega
      · rw [ez]
        rw [List.append_assoc] at r2
        exact r2
    | succ m ih =>
      intro i s' hi hf ho'
      have hts : (a.take (i + 1)).map znum = (a.take i).map znum ++ [znum (a.getD i 0)] := by rw [take_succ_getD a 0 i (by omega), List.map_append]; rfl
      have hm1 := hmono (i + 1)
      refine vX10_formOfRow_8 (M_sizeAt hst (by omega) (by rw [hf.1.h]; exact h3) ⟨_, rfl, pk_le a.length i (fun c => by omega) (fun _ => pk_le i 0 (fun c0 => ?_) (fun c0 => ?_) rfl rfl) rfl rfl⟩)
      · have i0 : i = 0 := by omega
        subst i0
        rw [nI_l2, nI_add, nI_clamp (by omega), hf.1.h, h4 0 (by omega)]
        have e1 : zsep 32 ((a.take (0 + 1)).map znum) = znum (a.getD 0 0) := by rw [hts]; rfl
        rw [e1] at hm1
        refine ⟨inB_n (by omega), N_number hst ho' ?_ (fun s2 r1 r2 => ?_)⟩
        · rw [List.length_append]
          show out.length + 1 + _ < _
          omega
        · rw [nI_1]
          refine ih (0 + 1) s2 (by omega) (hf.trans r1) ?_
          rw [e1]
          rw [List.append_assoc] at r2
          exact r2
      · have hne : (a.take i).map znum ≠ [] := by
          intro e
          have := congrArg List.length e
          rw [List.length_map, List.length_take] at this
          have : min i a.length = 0 := this
          omega
        have e1 : zsep 32 ((a.take (i + 1)).map znum) = zsep 32 ((a.take i).map znum) ++ 32 :: znum (a.getD i 0) := by rw [hts, zsep_snoc 32 _ _ hne]
        rw [e1, List.length_append, List.length_cons] at hm1
        refine N_says hst ho' ?_ (fun s2 r1 r2 => ?_)
        · rw [List.length_append, List.length_cons]; omega
        · rw [nI_l2, nI_add, nI_clamp (by omega), r1.1.h, hf.1.h, h4 i (by omega)]
          refine ⟨inB_n (by omega), N_number hst r2 ?_ (fun s3 t1 t2 => ?_)⟩
          · rw [List.length_append, List.length_append, List.length_cons]
            show out.length + (_ + 1) + 1 + _ < _
            omega
          · rw [nI_1]
            refine ih (i + 1) s3 (by omega) ((hf.trans r1).trans t1) ?_
            rw [e1]
            rw [List.append_assoc, List.append_assoc] at t2
            exact t2
  exact main a.length 0 s1 (by omega) q1 q2
theorem M_formPlain {K : MS → Prop} (hst : l.stackTraces = false) {p : Nat} {x : Th} (hr : rmT (s.2.2.1 104) b true x p 0) (hx : zk x < 3) (hb : b ≤ 166300) (ho : mOut s out) (hl : out.length + (zform 0 x).length < 2 ^ 31) (hQ : ∀ s', mfN s s' → mOut s' (out ++ zform 0 x) → K s') : EvM l E w (d + 3) MX10_formOfPlain [.ref w.1, .int (nI p)] s (fun r s' => r = none ∧ K s') := by
  have hh := rmT_head hr
  refine eX10_formOfPlain hst ⟨inB_n (by omega), ?_⟩
  rw [nI_clamp (by omega), hh.2.1]
  refine bn_eq (zk x) 1 (fun c => ?_) (fun c => ?_) rfl rfl
  · have ex := zk2 (t := x) (by omega)
    rw [ex] at hr hl hQ
    generalize zt x = a at hr hl hQ
    have ez : zform 0 (zT a) = 123 :: (a.map zfrow).flatten ++ [125] := rfl
    have la : p + 2 + a.length ≤ b := hr.1.1
    have hmono : ∀ i, (((a.take i).map zfrow).flatten).length ≤ ((a.map zfrow).flatten).length := by
      intro i
      have : ((a.map zfrow).flatten).length = (((a.take i).map zfrow).flatten).length + (((a.drop i).map zfrow).flatten).length := by
        rw [← List.length_append, ← List.flatten_append, ← List.map_append, List.take_append_drop]
      omega
    rw [ez, List.length_append, List.length_cons] at hl
    have hl : out.length + (((a.map zfrow).flatten).length + 1 + 1) < 2 ^ 31 := hl
    refine N_says hst ho (by omega) (fun s1 q1 q2 => ?_)
    have main : ∀ m i (s' : MS), i + m = a.length → mfN s s' → mOut s' (out ++ 123 :: ((a.take i).map zfrow).flatten) → ExM l E w (d + 3) MX10_formOfPlain 24 [some (.ref w.1), some (.int (nI p)), some (.int (nI i))] [] s' (fun r s' => r = none ∧ K s') := by
      intro m
      induction m with
      | zero =>
        intro i s' hi hf ho'
        have hi : i = a.length := hi
        rw [List.take_of_length_le (by omega)] at ho'
        refine vX10_formOfPlain_24 (M_sizeR hst (t := zT a) (by rw [hf.1.h]; exact hr) hb ⟨_, rfl, pk_le a.length i (fun _ => N_says hst ho' ?_ (fun s2 r1 r2 => ⟨rfl, hQ s2 (hf.trans r1) ?_⟩)) (fun c => by omega) rfl rfl⟩)
        · rw [List.length_append, List.length_cons]; omega
        · rw [ez]
          rw [List.append_assoc] at r2
          exact r2
      | succ m ih =>
        intro i s' hi hf ho'
        have hel : zel (zT a) i = zR (a.getD i []) := getD_map zR a [] (zI 0) (by omega)
        have hts : ((a.take (i + 1)).map zfrow).flatten = ((a.take i).map zfrow).flatten ++ zfrow (a.getD i []) := by
          rw [take_succ_getD a [] i (by omega), List.map_append, List.flatten_append]
          show _ ++ ([zfrow (a.getD i [])]).flatten = _
          rw [List.flatten_singleton]
        have hm1 := hmono (i + 1)
        rw [hts, List.length_append] at hm1
        have hr2 : rmT (s'.2.2.1 104) b true (zT a) p 0 := by rw [hf.1.h]; exact hr
        refine vX10_formOfPlain_24 (M_sizeR hst (t := zT a) hr2 hb ⟨_, rfl, pk_le a.length i (fun c => by omega) (fun _ => ?_) rfl rfl⟩)
        refine M_part hst hr2 hb (show i < a.length by omega) (by show 1 < 2; decide) (by show ¬ zk (zel (zT a) i) = 0; rw [hel]; show ¬ 1 = 0; decide) (fun q hq => ⟨_, rfl, ?_⟩)
        have hq : rmT (s'.2.2.1 104) b true (zel (zT a) i) q 0 := hq
        rw [hel] at hq
        refine M_formRow hst hq hb ho' ?_ (fun s2 r1 r2 => ?_)
        · rw [List.length_append, List.length_cons]; omega
        · rw [nI_1]
          refine ih (i + 1) s2 (by omega) (hf.trans r1) ?_
          rw [hts]
          rw [List.append_assoc] at r2
          exact r2
    exact main a.length 0 s1 (by omega) q1 q2
  · have ex := zk1 c
    rw [ex] at hr hl hQ
    exact M_formRow hst hr hb ho hl (fun s' q1 q2 => ⟨rfl, hQ s' q1 q2⟩)
/-- what of a pack is still to come out, from its i-th on -/
def FormP (l : Launch) (E : EN) (w : MO) (d b : Nat) (K : MS → Prop) (tl : List Th) : Prop :=
  ∀ (m i k p : Nat) (out : List Int32) (s : MS), i + m = tl.length → k + zd (zP tl) ≤ 8 → rmT (s.2.2.1 104) b true (zP tl) p 0 → s.1 112 = nI (k + 1) → s.2.2.1 109 k = nI p → s.2.2.1 111 k = nI i → mOut s out → out.length + (zform (if i = 0 then 1 else 2) (zsp (tl.drop i)) ++ [41]).length < 2 ^ 31 →
    (∀ s', mfO s s' → s'.1 112 = nI k → mOut s' (out ++ (zform (if i = 0 then 1 else 2) (zsp (tl.drop i)) ++ [41])) → (∀ j, j < k → s'.2.2.1 109 j = s.2.2.1 109 j ∧ s'.2.2.1 111 j = s.2.2.1 111 j) → ExM l E w (d + 4) MX10_form 33 [some (.ref w.1), none, none, none] [] s' (fun r s' => r = none ∧ K s')) →
    ExM l E w (d + 4) MX10_form 33 [some (.ref w.1), none, none, none] [] s (fun r s' => r = none ∧ K s')
theorem M_formL {K : MS → Prop} (hst : l.stackTraces = false) (hb : b ≤ 166300) : ∀ t, ZW t → ∀ tl, t = zP tl → FormP l E w d b K tl := by
  refine zind (P := fun t => ∀ tl, t = zP tl → FormP l E w d b K tl) (fun v tl e => by cases e) (fun a _ tl e => by cases e) (fun a _ _ _ tl e => by cases e) ?_
  intro tl hl1 hl2 hl3 IH tl' e
  have e : tl = tl' := zP_inj e
  subst e
  intro m
  have hnl : zn (zP tl) = tl.length := by rw [zn_ze, zl_zP]
  induction m with
  | zero =>
    intro i k p out s hi hk hp h112 h109 h111 ho hl hQ
    have hi : i = tl.length := hi
    have hz := zd_zP tl
    have hd0 : tl.drop i = [] := List.drop_of_length_le (by omega)
    have ef : zform (if i = 0 then 1 else 2) (zsp (tl.drop i)) = [] := by
      rw [hd0]
      split <;> rfl
    rw [ef, List.nil_append] at hl hQ
    have hl : out.length + 1 < 2 ^ 31 := hl
    refine vX10_form_33 ?_
    rw [h112]
    refine pk_le (k + 1) 0 (fun c => by omega) (fun _ => ?_) rfl rfl
    rw [nI_pred, nI_clamp (by omega), h109, h111]
    refine ⟨inB_n (by omega), fun y1 e1 => ⟨inB_n (by omega), fun y2 e2 => ?_⟩⟩
    subst e1 e2
    refine M_sizeR hst hp hb ⟨_, rfl, ?_⟩
    rw [hnl]
    refine bn_eq i tl.length (fun c => absurd hi c) (fun _ => N_says hst ho hl (fun s2 r1 r2 => hQ _ (r1.1.trans (mfO.sI s2 112 _)) ?_ ⟨r2.1, r2.2⟩ (fun j _ => r1.2.1 j))) rfl rfl
    show s2.1 112 - 1 = _
    rw [r1.2.2, h112, nI_pred]
  | succ m ih =>
    intro i k p out s hi hk hp h112 h109 h111 ho hl hQ
    have hz := zd_zP tl
    have hh := rmT_head hp
    rw [hnl] at hh
    have hpk := rmT_packAt rfl hp (show i < zn (zP tl) by omega)
    have hze : zel (zP tl) i = tl.getD i (zI 0) := by show (ze (zP tl)).getD i (zI 0) = _; rw [zl_zP]
    rw [hze] at hpk
    have hmx : tl.getD i (zI 0) ∈ tl := getD_mem _ (by omega)
    have hdx := zd_mem tl _ hmx
    obtain ⟨wxx, hxi⟩ := IH _ hmx
    have hdr : tl.drop i = tl.getD i (zI 0) :: tl.drop (i + 1) := by
      rw [getD_lt _ (by omega)]; exact List.drop_eq_getElem_cons (by omega)
    generalize tl.getD i (zI 0) = x at hpk hmx hdx wxx hxi hdr
    have kx := zk_le x
    have ef : zform (if i = 0 then 1 else 2) (zsp (tl.drop i)) ++ [41] = (if i = 0 then [] else [59]) ++ (zform 0 x ++ (zform 2 (zsp (tl.drop (i + 1))) ++ [41])) := by
      rw [hdr]
      by_cases i0 : i = 0
      · rw [if_pos i0, if_pos i0]
        show (zform 0 x ++ zform 2 (zsp (tl.drop (i + 1)))) ++ [41] = _
        rw [List.append_assoc]; rfl
      · rw [if_neg i0, if_neg i0]
        show (59 :: zform 0 x ++ zform 2 (zsp (tl.drop (i + 1)))) ++ [41] = _
        rw [List.append_assoc]; rfl
    rw [ef] at hl hQ
    have e2 : (if i + 1 = 0 then 1 else 2) = 2 := if_neg (Nat.succ_ne_zero i)
    -- once the i-th one is out
    have nxt : ∀ (s1 : MS) (out1 : List Int32), mfO s s1 → s1.1 112 = nI (k + 1) → s1.2.2.1 109 k = nI p → s1.2.2.1 111 k = nI (i + 1) → (∀ j, j < k → s1.2.2.1 109 j = s.2.2.1 109 j ∧ s1.2.2.1 111 j = s.2.2.1 111 j) → mOut s1 out1 → out1 = out ++ ((if i = 0 then [] else [59]) ++ zform 0 x) → ExM l E w (d + 4) MX10_form 33 [some (.ref w.1), none, none, none] [] s1 (fun r s' => r = none ∧ K s') := by
      intro s1 out1 hf g112 g109 g111 gj go eo
      have e3 : out1 ++ (zform 2 (zsp (tl.drop (i + 1))) ++ [41]) = out ++ ((if i = 0 then [] else [59]) ++ (zform 0 x ++ (zform 2 (zsp (tl.drop (i + 1))) ++ [41]))) := by
        rw [eo]; simp only [List.append_assoc]
      refine ih (i + 1) k p out1 s1 (by omega) hk (by rw [hf.h]; exact hp) g112 g109 g111 go ?_ ?_
      · rw [e2]
        have := congrArg List.length e3
        rw [List.length_append] at this
        rw [this, List.length_append]
        exact hl
      · intro s2 r1 r2 r3 r4
        refine hQ s2 (hf.trans r1) r2 ?_ (fun j hj => ⟨(r4 j hj).1.trans (gj j hj).1, (r4 j hj).2.trans (gj j hj).2⟩)
        rw [e2, e3] at r3
        exact r3
    have hlx : out.length + (if i = 0 then ([] : List Int32) else [59]).length + (zform 0 x).length + 1 < 2 ^ 31 := by
      rw [List.length_append, List.length_append, List.length_append] at hl
      have : ([41] : List Int32).length = 1 := rfl
      omega
    -- the i-th one, from the point where it is looked at
    have elem : ∀ (s5 : MS) (out5 : List Int32), mfO s s5 → s5.1 112 = nI (k + 1) → s5.2.2.1 109 k = nI p → s5.2.2.1 111 k = nI (i + 1) → (∀ j, j < k → s5.2.2.1 109 j = s.2.2.1 109 j ∧ s5.2.2.1 111 j = s.2.2.1 111 j) → mOut s5 out5 → out5 = out ++ (if i = 0 then [] else [59]) → EvM l E w (d + 3) MX10_isInt [.ref w.1, .int (nI p), .int (nI i)] s5 (fun r s5 => ∃ v6 : Int32, r = some (.int v6) ∧ ((v6 = 0 → (EvM l E w (d + 3) MX10_partAt [.ref w.1, .int (nI p), .int (nI i)] s5 (fun r s7 => ∃ v8 : Int32, r = some (.int v8) ∧ (inB v8 166300 ∧ ((¬ (s7.2.2.1 104 v8.toNatClampNeg) = 3 → (EvM l E w (d + 3) MX10_partAt [.ref w.1, .int (nI p), .int (nI i)] s7 (fun r s9 => ∃ v10 : Int32, r = some (.int v10) ∧ (EvM l E w (d + 3) MX10_formOfPlain [.ref w.1, .int v10] s9 (fun r s11 => r = none ∧ ExM l E w (d + 4) MX10_form 33 [some (.ref w.1), none, none, none] [] s11 (fun r s' => r = none ∧ K s')))))) ∧ ((s7.2.2.1 104 v8.toNatClampNeg) = 3 → (EvM l E w (d + 3) MX10_says [.ref w.1, .int 40] s7 (fun r s12 => r = none ∧ (EvM l E w (d + 3) MX10_partAt [.ref w.1, .int (nI p), .int (nI i)] s12 (fun r s13 => ∃ v14 : Int32, r = some (.int v14) ∧ (EvM l E w (d + 3) MX10_goesIn [.ref w.1, .int v14, .int 0] s13 (fun r s15 => r = none ∧ ExM l E w (d + 4) MX10_form 33 [some (.ref w.1), none, none, none] [] s15 (fun r s' => r = none ∧ K s'))))))))))))) ∧ (¬ v6 = 0 → (inB ((nI p + 3) + (2 * nI i)) 166300 ∧ (EvM l E w (d + 3) MX10_number [.ref w.1, .int (s5.2.2.1 104 ((nI p + 3) + (2 * nI i)).toNatClampNeg)] s5 (fun r s16 => r = none ∧ ExM l E w (d + 4) MX10_form 33 [some (.ref w.1), none, none, none] [] s16 (fun r s' => r = none ∧ K s'))))))) := by
      intro s5 out5 hf g112 g109 g111 gj go eo
      have gh := hf.h
      have hl5 : out5.length + (zform 0 x).length + 1 < 2 ^ 31 := by rw [eo, List.length_append]; exact hlx
      rcases hpk.2 with ⟨x0, a2, a3⟩ | ⟨x0, a2, u, a3, hu⟩
      · refine M_isInt hst (by omega) (fun _ => ⟨_, rfl, fun c => absurd c (by decide), fun _ => ?_⟩) (fun c => absurd (by rw [gh]; exact a2) c)
        rw [nI_l3, nI_m2, nI_add, nI_clamp (by omega), gh, a3]
        have ex : zform 0 x = znum (zv x) := by rw [zk0 x0]; rfl
        rw [ex] at hl5
        refine ⟨inB_n (by omega), N_number hst go (by omega) (fun s6 r1 r2 => nxt s6 _ (hf.trans r1.1) (r1.2.2.trans g112) ((r1.2.1 k).1.trans g109) ((r1.2.1 k).2.trans g111) (fun j hj => ⟨(r1.2.1 j).1.trans (gj j hj).1, (r1.2.1 j).2.trans (gj j hj).2⟩) r2 ?_)⟩
        rw [eo, ex, List.append_assoc]
      · have ux := rmT_head hu
        refine M_isInt hst (by omega) (fun c => absurd (show (1 : Int32) = 0 by rw [gh, a2] at c; exact c) (by decide)) (fun _ => ⟨_, rfl, fun _ => ?_, fun c => absurd rfl c⟩)
        refine M_partP hst (by rw [gh]; exact hh.2.1) (by omega) (by rw [gh]; exact a3) ⟨_, rfl, inB_n (by omega), ?_⟩
        rw [nI_clamp (by omega), gh, ux.2.1]
        refine bn_eq (zk x) 3 (fun c3 => ?_) (fun c3 => ?_) rfl rfl
        · refine M_partP hst (by rw [gh]; exact hh.2.1) (by omega) (by rw [gh]; exact a3) ⟨_, rfl, ?_⟩
          refine M_formPlain hst (by rw [gh]; exact hu) (by omega) hb go (by omega) (fun s6 r1 r2 => nxt s6 _ (hf.trans r1.1) (r1.2.2.trans g112) ((r1.2.1 k).1.trans g109) ((r1.2.1 k).2.trans g111) (fun j hj => ⟨(r1.2.1 j).1.trans (gj j hj).1, (r1.2.1 j).2.trans (gj j hj).2⟩) r2 ?_)
          rw [eo, List.append_assoc]
        · rcases zcases wxx with ⟨v, h⟩ | ⟨a, h, h1⟩ | ⟨a, h, h1, h2, h3⟩ | ⟨tx, ex, h1, h2, h3, h4⟩
          · rw [h] at c3; exact absurd c3 (by show ¬ 0 = 3; decide)
          · rw [h] at c3; exact absurd c3 (by show ¬ 1 = 3; decide)
          · rw [h] at c3; exact absurd c3 (by show ¬ 2 = 3; decide)
          have hdp : zd x = zd (zsp tx) + 1 := by rw [ex, zd_zP]
          have efx : zform 0 x = 40 :: (zform 1 (zsp tx) ++ [41]) := by rw [ex]; rfl
          have hlx2 : (zform 0 x).length = 1 + (zform 1 (zsp tx) ++ [41]).length := by rw [efx, List.length_cons]; omega
          refine N_says hst go (by omega) (fun s6 r1 r2 => ?_)
          have gh6 : s6.2.2.1 104 = s.2.2.1 104 := by rw [r1.1.h, gh]
          refine M_partP hst (by rw [gh6]; exact hh.2.1) (by omega) (by rw [gh6]; exact a3) ⟨_, rfl, ?_⟩
          refine eX10_goesIn hst ?_
          rw [r1.2.2, g112, nI_clamp (by omega), nI_1]
          refine ⟨inB_n (by omega), inB_n (by omega), inB_n (by omega), rfl, ?_⟩
          have hg2 : mfO s6 (sI (sA (sA (sA s6 109 (k + 1) (nI u)) 110 (k + 1) 0) 111 (k + 1) 0) 112 (nI (k + 1 + 1))) := (((mfO.gA s6 _).trans (mfO.gA _ _)).trans (mfO.gA _ _)).trans (mfO.sI _ 112 _)
          have b109 : ∀ j, j < k + 1 → (sI (sA (sA (sA s6 109 (k + 1) (nI u)) 110 (k + 1) 0) 111 (k + 1) 0) 112 (nI (k + 1 + 1))).2.2.1 109 j = s6.2.2.1 109 j ∧ (sI (sA (sA (sA s6 109 (k + 1) (nI u)) 110 (k + 1) 0) 111 (k + 1) 0) 112 (nI (k + 1 + 1))).2.2.1 111 j = s6.2.2.1 111 j := by
            intro j hj
            have : ¬ j = k + 1 := by omega
            exact ⟨by simp [sI, sA, this], by simp [sI, sA, this]⟩
          refine hxi tx ex tx.length 0 (k + 1) u (out5 ++ [40]) _ (by omega) (by rw [zd_zP]; omega) (by rw [hg2.h, gh6, ← ex]; exact hu) rfl (by simp [sI, sA]) (by simp [sI, sA]; rfl) ⟨r2.1, r2.2⟩ ?_ ?_
          · rw [List.drop_zero, if_pos rfl, List.length_append]
            show out5.length + 1 + _ < _
            omega
          · intro s7 t1 t2 t3 t4
            rw [List.drop_zero, if_pos rfl] at t3
            refine nxt s7 _ (((hf.trans r1.1).trans hg2).trans t1) t2 ?_ ?_ (fun j hj => ⟨?_, ?_⟩) t3 ?_
            · rw [(t4 k (by omega)).1, (b109 k (by omega)).1, (r1.2.1 k).1]; exact g109
            · rw [(t4 k (by omega)).2, (b109 k (by omega)).2, (r1.2.1 k).2]; exact g111
            · rw [(t4 j (by omega)).1, (b109 j (by omega)).1, (r1.2.1 j).1]; exact (gj j hj).1
            · rw [(t4 j (by omega)).2, (b109 j (by omega)).2, (r1.2.1 j).2]; exact (gj j hj).2
            · rw [eo, efx]; simp only [List.append_assoc, List.cons_append, List.nil_append]
    refine vX10_form_33 ?_
    rw [h112]
    refine pk_le (k + 1) 0 (fun c => by omega) (fun _ => ?_) rfl rfl
    rw [nI_pred, nI_clamp (by omega), h109, h111]
    refine ⟨inB_n (by omega), fun y1 e1 => ⟨inB_n (by omega), fun y2 e2' => ?_⟩⟩
    subst e1 e2'
    refine M_sizeR hst hp hb ⟨_, rfl, ?_⟩
    rw [hnl]
    refine bn_eq i tl.length (fun _ => ?_) (fun c => by omega) rfl rfl
    rw [h112, nI_pred, nI_clamp (by omega), h111, nI_1]
    refine ⟨inB_n (by omega), inB_n (by omega), ?_⟩
    have hg : mfO s (sA s 111 k (nI (i + 1))) := mfO.gA s _
    have g111 : ∀ j, (sA s 111 k (nI (i + 1))).2.2.1 111 j = if j = k then nI (i + 1) else s.2.2.1 111 j := by
      intro j
      show (if 111 = 111 ∧ j = k then _ else _) = _
      by_cases h : j = k <;> simp [h]
    have gk : (sA s 111 k (nI (i + 1))).2.2.1 111 k = nI (i + 1) := by rw [g111, if_pos rfl]
    have gj : ∀ j, j < k → (sA s 111 k (nI (i + 1))).2.2.1 109 j = s.2.2.1 109 j ∧ (sA s 111 k (nI (i + 1))).2.2.1 111 j = s.2.2.1 111 j := fun j hj => ⟨rfl, by rw [g111, if_neg (by omega)]⟩
    have go : mOut (sA s 111 k (nI (i + 1))) out := ⟨ho.1, ho.2⟩
    refine pk_le i 0 (fun c0 => ?_) (fun c0 => ?_) rfl rfl
    · exact elem _ out hg h112 h109 gk gj go (by rw [if_pos (by omega), List.append_nil])
    · have hnz : (if i = 0 then ([] : List Int32) else [59]) = [59] := if_neg (by omega)
      rw [hnz] at hlx
      have hlx : out.length + 1 + (zform 0 x).length + 1 < 2 ^ 31 := hlx
      refine N_says hst go (by omega) (fun s6 r1 r2 => ?_)
      exact elem s6 _ (hg.trans r1.1) (r1.2.2.trans h112) ((r1.2.1 k).1.trans h109) ((r1.2.1 k).2.trans gk) (fun j hj => ⟨(r1.2.1 j).1.trans (gj j hj).1, (r1.2.1 j).2.trans (gj j hj).2⟩) r2 (by rw [hnz])
/-- the form of a thing comes out -/
theorem M_form {K : MS → Prop} (hst : l.stackTraces = false) {p : Nat} {x : Th} (hr : rmT (s.2.2.1 104) b true x p 0) (wx : ZW x) (hb : b ≤ 166300) (ho : mOut s out) (hl : out.length + (zform 0 x).length < 2 ^ 31) (hQ : ∀ s', mfO s s' → mOut s' (out ++ zform 0 x) → K s') : EvM l E w (d + 4) MX10_form [.ref w.1, .int (nI p)] s (fun r s' => r = none ∧ K s') := by
  have hh := rmT_head hr
  have kx := zk_le x
  refine eX10_form hst ⟨inB_n (by omega), ?_⟩
  rw [nI_clamp (by omega), hh.2.1]
  refine pk_eq (zk x) 3 (fun c3 => ?_) (fun c3 => ?_) rfl rfl
  · rcases zcases wx with ⟨v, h⟩ | ⟨a, h, h1⟩ | ⟨a, h, h1, h2, h3⟩ | ⟨tx, ex, h1, h2, h3, h4⟩
    · rw [h] at c3; exact absurd c3 (by show ¬ 0 = 3; decide)
    · rw [h] at c3; exact absurd c3 (by show ¬ 1 = 3; decide)
    · rw [h] at c3; exact absurd c3 (by show ¬ 2 = 3; decide)
    have efx : zform 0 x = 40 :: (zform 1 (zsp tx) ++ [41]) := by rw [ex]; rfl
    have hlx2 : (zform 0 x).length = 1 + (zform 1 (zsp tx) ++ [41]).length := by rw [efx, List.length_cons]; omega
    refine N_says hst ho (by omega) (fun s1 r1 r2 => ?_)
    refine eX10_goesIn hst ?_
    have e112 : (sI s1 112 0).1 112 = nI 0 := rfl
    rw [e112, nI_clamp (by omega), nI_1]
    refine ⟨inB_n (by omega), inB_n (by omega), inB_n (by omega), rfl, ?_⟩
    have hg2 : mfO s1 (sI (sA (sA (sA (sI s1 112 0) 109 0 (nI p)) 110 0 0) 111 0 0) 112 (nI (0 + 1))) := ((((mfO.sI s1 112 _).trans (mfO.gA _ _)).trans (mfO.gA _ _)).trans (mfO.gA _ _)).trans (mfO.sI _ 112 _)
    refine M_formL hst hb x wx tx ex tx.length 0 0 p (out ++ [40]) _ (by omega) (by rw [zd_zP]; omega) (by rw [hg2.h, r1.1.h, ← ex]; exact hr) rfl rfl rfl ⟨r2.1, r2.2⟩ ?_ ?_
    · rw [List.drop_zero, if_pos rfl, List.length_append]
      show out.length + 1 + _ < _
      omega
    · intro s7 t1 t2 t3 _
      rw [List.drop_zero, if_pos rfl] at t3
      refine vX10_form_33 ⟨fun _ => ⟨rfl, hQ s7 ((r1.1.trans hg2).trans t1) ?_⟩, fun c => absurd (by rw [t2]; decide) c⟩
      rw [efx]
      rw [List.append_assoc] at t3
      exact t3
  · exact M_formPlain hst hr (by omega) hb ho hl (fun s' q1 q2 => ⟨rfl, hQ s' q1.1 q2⟩)
end MO8
