/-! THE MODEL'S STATEMENTS: if, while, for, try as steps of the text -/
section SP4
variable {l : Launch} {E : EN} {w : MO} {d : Nat} {ch : Nat → Nat} {n hf : Nat} {s00 s s0 s1 s' sd : MS} {k pl p p1 p' o o' c c1 c' cb : Nat} {vs vs1 vs' : List Nat} {O O1 O' : Nat → Od} {B B1 B' : List Tok} {X : List XE} {bk : BE} {Bl : List BE} {Fn : List FE} {q' : Nat × Nat} {al : Int32} {Q : Option Value → MS → Prop} {R : MS → Prop} {x1 x2 x3 x4 : Int32}
theorem askC_le (c : Nat) (wh : Bool) : c ≤ askC c wh ∧ askC c wh ≤ c + 1 := by cases wh <;> exact ⟨by unfold askC; simp, by unfold askC; simp⟩
theorem T_ask (hst : l.stackTraces = false) (h : mTt ch n hf s00 (((p, o), vs, O, c, B), bk :: Bl, Fn) s) (h1 : (tk ch n p).1 = 1) {wh : Bool} (hk : kw (tk ch n p) = if wh then 3 else 1) (hc : c < 3850) (hbl : Bl.length ≤ 9)
    (hno : ¬ ((tk ch n (tk ch n p).2.2.2).1 = 3 ∧ (tk ch n (tk ch n p).2.2.2).2.2.1 = 40) → ∀ s', mTF hf s00 (wk (tk ch n (tk ch n p).2.2.2)) (tk ch n (tk ch n p).2.2.2).2.1 s' → Q none s')
    (hdp : (tk ch n (tk ch n p).2.2.2).1 = 3 → (tk ch n (tk ch n p).2.2.2).2.2.1 = 40 → o = 10 → ∀ s', mTF hf s00 3 (tk ch n (tk ch n p).2.2.2).2.1 s' → Q none s')
    (hx : (tk ch n (tk ch n p).2.2.2).1 = 3 → (tk ch n (tk ch n p).2.2.2).2.2.1 = 40 → o < 10 → (∃ k pl, XB l E w (d + 1) 0 ch n hf sd (0, 0) (((tk ch n (tk ch n p).2.2.2).2.2.2, o + 1), vs, askO (oup O (4000 * (1 - hf) + c) (1, 0, 0, 0, nI (tk ch n p).2.1)) (4000 * (1 - hf) + (c + 1)) wh (nI (tk ch n p).2.1), askC (c + 1) wh, B, []) k pl ∧ ∀ s', mTF hf s00 k pl s' → Q none s') ∨
      (∃ q' p1 vs1 O1 c1 B1, XF l E w (d + 1) 0 ch n hf sd (0, 0) (((tk ch n (tk ch n p).2.2.2).2.2.2, o + 1), vs, askO (oup O (4000 * (1 - hf) + c) (1, 0, 0, 0, nI (tk ch n p).2.1)) (4000 * (1 - hf) + (c + 1)) wh (nI (tk ch n p).2.1), askC (c + 1) wh, B, []) q' ((p1, o + 1), vs1, O1, c1, B1, []) ∧ okE q' (tk ch n p1) ∧ c1 < 3900 ∧ (¬ ((tk ch n p1).1 = 3 ∧ (tk ch n p1).2.2.1 = 41) → ∀ s', mTF hf s00 (wk (tk ch n p1)) (tk ch n p1).2.1 s' → Q none s') ∧
        ((tk ch n p1).1 = 3 → (tk ch n p1).2.2.1 = 41 → (¬ ((tk ch n (tk ch n p1).2.2.2).1 = 3 ∧ (tk ch n (tk ch n p1).2.2.2).2.2.1 = 123) → ∀ s', mTF hf s00 (wk (tk ch n (tk ch n p1).2.2.2)) (tk ch n (tk ch n p1).2.2.2).2.1 s' → Q none s') ∧ ((tk ch n (tk ch n p1).2.2.2).1 = 3 → (tk ch n (tk ch n p1).2.2.2).2.2.1 = 123 → ∀ s', mTt ch n hf s00 ((((tk ch n (tk ch n p1).2.2.2).2.2.2, o + 1), vs1, oup O1 (4000 * (1 - hf) + c1) (14, 0, 0, 0, nI (tk ch n p).2.1), c1 + 1, B1), ((if wh then 3 else 1), 4000 * (1 - hf) + c1, 4000 * (1 - hf) + (c + 1)) :: bk :: Bl, Fn) s' → TE l E w d s' Q)))) : TE l E w d s Q := by
  have hkk : kw (tk ch n p) = 1 ∨ kw (tk ch n p) = 3 := by rw [hk]; split <;> omega
  have hC := askC_le (c + 1) wh
  have hlen : (bk :: Bl).length = Bl.length + 1 := rfl
  refine st_core hst h (fun z => by omega) (by omega) (by omega) (fun z => ?_) (fun z1 z2 => ?_) (fun _ _ s8 h8 => st_ask hst h8 (by omega) hk (fun s1 h1' => ?_))
  · simp only [List.mem_cons, List.not_mem_nil, or_false] at z
    omega
  · omega
  have fl : ∀ {cb k pl : Nat} {s1 : MS}, mFt ch n hf s cb k pl s1 → ¬ s1.1 66 ≤ 0 → cb < 3990 → (∀ s', mTF hf s00 k pl s' → Q none s') → EvM l E w (d + 11) MX10_sign [.ref w.1, .int 41] s1 (fun r s6 => r = none ∧ (EvM l E w (d + 11) MX10_order [.ref w.1, .int 14, .int 0, .int 0, .int (nI (tk ch n p).2.1)] s6 (fun r s7 => ∃ v8 : Int32, r = some (.int v8) ∧ (EvM l E w (d + 11) MX10_block [.ref w.1, .int (nI (if wh then 3 else 1)), .int v8, .int (nI (4000 * (1 - hf) + (c + 1)))] s7 (fun r s9 => r = none ∧ ((none : Option Value) = none ∧ TE l E w d s9 Q)))))) := fun hF h66 hcb hQ => askF (Bl := bk :: Bl) (Q := fun _ s9 => (none : Option Value) = none ∧ TE l E w d s9 Q) hst (hF.tF h66 h.ft h.n94) hcb (by omega) (fun s3 h3 => ⟨rfl, h3.fin hQ⟩)
  refine MP_opens hst (k := 40) h1' (by decide) (fun z s2 h2 _ h66 => ⟨rfl, ?_⟩) (fun z1 z2 z3 s2 h2 _ h66 => ⟨rfl, ?_⟩) (fun z1 z2 z3 s2 h2 => ⟨rfl, ?_⟩)
  · have t2 := h2.tF h66 h.ft h.n94
    exact tF_expr hst t2 (fun s3 h3 => ⟨rfl, askF (Bl := bk :: Bl) (Q := fun _ s9 => (none : Option Value) = none ∧ TE l E w d s9 Q) hst h3 (by omega) (by omega) (fun s4 h4 => ⟨rfl, h4.fin (hno z)⟩)⟩)
  · have t2 := h2.tF h66 h.ft h.n94
    exact tF_expr hst t2 (fun s3 h3 => ⟨rfl, askF (Bl := bk :: Bl) (Q := fun _ s9 => (none : Option Value) = none ∧ TE l E w d s9 Q) hst h3 (by omega) (by omega) (fun s4 h4 => ⟨rfl, h4.fin (hdp z1 z2 z3)⟩)⟩)
  · rcases hx z1 z2 z3 with ⟨k, pl, hx, hQ⟩ | ⟨q', p1, vs1, O1, c1, B1, hx, hq, hc1, hn41, h41⟩
    · exact XE_bad hst hx h2 (fun s3 h3 => ⟨rfl, mFt_sign hst (x := 41) (by decide) h3 (fun s4 h4 h66 => ⟨rfl, tF_order hst (h4.tF h66 h.ft h.n94) (by omega) (fun c' s5 _ h5 _ => ⟨_, rfl, tF_block hst h5 (by omega) (fun s6 h6 => ⟨rfl, rfl, h6.fin hQ⟩)⟩)⟩)⟩)
    · refine XE_ok hst hx hq hc1 h2 (fun s3 h3 => ⟨rfl, ?_⟩)
      by_cases c41 : (tk ch n p1).1 = 3 ∧ (tk ch n p1).2.2.1 = 41
      · obtain ⟨y1, y2⟩ := h41 c41.1 c41.2
        refine MP_sign hst (k := 41) h3 (by decide) (fun _ => by omega) (fun z => absurd c41 z) (fun _ _ s4 h4 _ => ⟨rfl, ?_⟩)
        rw [if_pos (by decide), Nat.add_sub_cancel] at h4
        refine MP_order hst (od := (14, 0, 0, 0, nI (tk ch n p).2.1)) h4 (by omega) rfl rfl rfl rfl (by show ¬ 14 = 13; omega) (fun s5 h5 _ => ⟨_, rfl, ?_⟩)
        exact M_block (zB := ((if wh then 3 else 1), 4000 * (1 - hf) + c1, 4000 * (1 - hf) + (c + 1))) hst h5 h.bl h.fn h.ft (by omega) rfl rfl rfl (fun z s6 h6 => ⟨rfl, rfl, h6.fin (y1 z)⟩) (fun _ _ z => by omega) (fun z1 z2 _ s6 h6 => ⟨rfl, rfl, y2 z1 z2 s6 h6⟩)
      · exact mFt_no hst h3 (by decide) (fun _ => by omega) c41 (fun s4 h4 h66 => ⟨rfl, tF_order hst (h4.tF h66 h.ft h.n94) (by omega) (fun c' s5 _ h5 _ => ⟨_, rfl, tF_block hst h5 (by omega) (fun s6 h6 => ⟨rfl, rfl, h6.fin (hn41 c41)⟩)⟩)⟩)
theorem M_word (hst : l.stackTraces = false) {g x : Nat} (hx : x < 41) (h : mXg g ch n hf s0 ((p, o), vs, O, c, B, X) s) (hno : ¬ kw (tk ch n p) = x → ∀ s', mFt ch n hf s0 c (wk (tk ch n p)) (tk ch n p).2.1 s' → ¬ s'.1 66 ≤ 0 → Q none s') (hok : kw (tk ch n p) = x → ∀ s', mXg g ch n hf s0 (((tk ch n p).2.2.2, o), vs, O, c, B, X) s' → Q none s') : EvM l E w (d + 4) MX10_word [.ref w.1, .int (nI x)] s Q := by
  have hTk : mTk s (tk ch n p) := h.2.1.1
  have ht := h.1.tk h.2.1.2
  have h66 := h.2.2.1.1
  refine eX10_word hst ⟨fun _ => M_isWord hst (k := x) h.1.2.1 hTk ht.1.1 ht.2.1 hx ⟨_, rfl, pk_b (fun z => ?_) (fun z => ?_)⟩, fun z => absurd (by rw [h66]; decide) z⟩
  · exact M_wrong hst hTk ht.1.1 h66 ⟨rfl, hno (fun y => z ((kw_iff hx).mpr y)) _ (mFt.told h.1 ⟨c, h.2.2.2.2.1.1, Nat.le_refl _⟩ rfl rfl) (by show ¬ (nI (wk (tk ch n p)) : Int32) ≤ 0; unfold wk; split <;> decide)⟩
  · exact h.takeX hst (fun s' h' => ⟨rfl, hok ((kw_iff hx).mp z) s' h'⟩)
/-- a name -/
theorem M_nm (hst : l.stackTraces = false) (h : mXg 1 ch n hf s0 ((p, o), vs, O, c, B, X) s)
    (hno : ¬ ((tk ch n p).1 = 1 ∧ kw (tk ch n p) = 41) → ∀ s', mFt ch n hf s0 c (wk (tk ch n p)) (tk ch n p).2.1 s' → ¬ s'.1 66 ≤ 0 → Q (some (.int 0)) s')
    (hfull : (tk ch n p).1 = 1 → kw (tk ch n p) = 41 → (¬ (1 ≤ (tk ch n p).2.2.1 ∧ (tk ch n p).2.2.1 ≤ 8) ∧ nix vs (tk ch n p).2.2.1 = 14) → ∀ s', mFt ch n hf s0 c 3 (tk ch n p).2.1 s' → ¬ s'.1 66 ≤ 0 → Q (some (.int 0)) s')
    (hok : (tk ch n p).1 = 1 → kw (tk ch n p) = 41 → ¬ (¬ (1 ≤ (tk ch n p).2.2.1 ∧ (tk ch n p).2.2.1 ≤ 8) ∧ nix vs (tk ch n p).2.2.1 = 14) → ∀ s', mXg 1 ch n hf s0 (((tk ch n p).2.2.2, o), nmV vs (tk ch n p).2.2.1, O, c, B, X) s' → Q (some (.int (nI (nmN vs (tk ch n p).2.2.1)))) s') : EvM l E w (d + 4) MX10_name [.ref w.1] s Q := by
  refine MP_name hst h (by decide) hno (fun z1 z2 z3 z4 s' h' => ?_) (fun z1 z2 z3 z4 => hfull z1 z2 ⟨z3, z4⟩) (fun z1 z2 z3 z4 s' h' => ?_)
  · have := hok z1 z2 (fun y => y.1 ⟨z3, z4⟩) s' (by unfold nmV; rw [if_pos ⟨z3, z4⟩]; exact h')
    unfold nmN at this
    rw [if_pos ⟨z3, z4⟩] at this
    exact this
  · have := hok z1 z2 (fun y => by omega) s' (by unfold nmV; rw [if_neg z3]; exact h')
    unfold nmN at this
    rw [if_neg z3] at this
    exact this
/-- for -/
theorem T_for (hst : l.stackTraces = false) (h : mTt ch n hf s00 (((p, o), vs, O, c, B), bk :: Bl, Fn) s) (h1 : (tk ch n p).1 = 1) (hk : kw (tk ch n p) = 4) (hc : c < 3850) (hbl : Bl.length ≤ 9) {t1 t2 : Tok} (et1 : tk ch n (tk ch n p).2.2.2 = t1) (et2 : tk ch n t1.2.2.2 = t2)
    (hno : ¬ (t1.1 = 1 ∧ kw t1 = 41) → ∀ s', mTF hf s00 (wk t1) t1.2.1 s' → Q none s')
    (hfull : t1.1 = 1 → kw t1 = 41 → (¬ (1 ≤ t1.2.2.1 ∧ t1.2.2.1 ≤ 8) ∧ nix vs t1.2.2.1 = 14) → ∀ s', mTF hf s00 3 t1.2.1 s' → Q none s')
    (hin : t1.1 = 1 → kw t1 = 41 → ¬ (¬ (1 ≤ t1.2.2.1 ∧ t1.2.2.1 ≤ 8) ∧ nix vs t1.2.2.1 = 14) → ¬ kw t2 = 5 → ∀ s', mTF hf s00 (wk t2) t2.2.1 s' → Q none s')
    (hx : t1.1 = 1 → kw t1 = 41 → ¬ (¬ (1 ≤ t1.2.2.1 ∧ t1.2.2.1 ≤ 8) ∧ nix vs t1.2.2.1 = 14) → kw t2 = 5 → (∃ k pl, XB l E w (d + 1) 0 ch n hf sd (0, 0) ((t2.2.2.2, o), nmV vs t1.2.2.1, oup O (4000 * (1 - hf) + c) (1, 0, 0, 0, nI (tk ch n p).2.1), c + 1, B, []) k pl ∧ ∀ s', mTF hf s00 k pl s' → Q none s') ∨
      (∃ q' p1 vs1 O1 c1 B1, XF l E w (d + 1) 0 ch n hf sd (0, 0) ((t2.2.2.2, o), nmV vs t1.2.2.1, oup O (4000 * (1 - hf) + c) (1, 0, 0, 0, nI (tk ch n p).2.1), c + 1, B, []) q' ((p1, o), vs1, O1, c1, B1, []) ∧ okE q' (tk ch n p1) ∧ c1 < 3900 ∧ (¬ ((tk ch n p1).1 = 3 ∧ (tk ch n p1).2.2.1 = 123) → ∀ s', mTF hf s00 (wk (tk ch n p1)) (tk ch n p1).2.1 s' → Q none s') ∧ ((tk ch n p1).1 = 3 → (tk ch n p1).2.2.1 = 123 → o = 10 → ∀ s', mTF hf s00 3 (tk ch n p1).2.1 s' → Q none s') ∧ ((tk ch n p1).1 = 3 → (tk ch n p1).2.2.1 = 123 → o < 10 → ∀ s', mTt ch n hf s00 ((((tk ch n p1).2.2.2, o + 1), vs1, oup (oup O1 (4000 * (1 - hf) + c1) (17, 0, 0, 0, nI (tk ch n p).2.1)) (4000 * (1 - hf) + (c1 + 1)) (18, 0, nmN vs t1.2.2.1, 0, nI (tk ch n p).2.1), c1 + 1 + 1, B1), (4, 4000 * (1 - hf) + (c1 + 1), 4000 * (1 - hf) + (c1 + 1)) :: bk :: Bl, Fn) s' → TE l E w d s' Q))) : TE l E w d s Q := by
  subst et1
  subst et2
  have hlen : (bk :: Bl).length = Bl.length + 1 := rfl
  refine st_core hst h (fun z => by omega) (by omega) (by omega) (fun z => ?_) (fun z1 z2 => ?_) (fun _ _ s8 h8 => ?_)
  · simp only [List.mem_cons, List.not_mem_nil, or_false] at z
    omega
  · omega
  refine vX10_statement_93 (kwI_ge (fun _ => ?_) (fun z => by omega))
  refine kwI_is (m := 1) rfl (by omega) (fun z => by omega) (fun _ => And.symm (kwI_is (m := 3) rfl (by omega) (fun z => by omega) (fun _ => And.symm (kwI_is (m := 4) rfl (by omega) (fun _ => ?_) (fun z => absurd hk z)))))
  -- a fault runs through
  have fo : ∀ {cb nb k pl : Nat} {s1 : MS} {v35 y : Int32}, tF hf s00 cb nb k pl s1 → cb < 3990 → nb ≤ 11 → (∀ s', mTF hf s00 k pl s' → Q none s') → EvM l E w (d + 11) MX10_order [.ref w.1, .int 17, .int 0, .int 0, .int y] s1 (fun r s38 => ∃ v39 : Int32, r = some (.int v39) ∧ (EvM l E w (d + 11) MX10_order [.ref w.1, .int 18, .int 0, .int v35, .int y] s38 (fun r s40 => ∃ v41 : Int32, r = some (.int v41) ∧ (EvM l E w (d + 11) MX10_block [.ref w.1, .int 4, .int v41, .int v41] s40 (fun r s42 => r = none ∧ ((none : Option Value) = none ∧ TE l E w d s42 Q)))))) := fun h1 hcb hnb hQ =>
    tF_order hst h1 (by omega) (fun _ s2 _ h2 _ => ⟨_, rfl, tF_order hst h2 (by omega) (fun _ s3 _ h3 _ => ⟨_, rfl, tF_block hst h3 hnb (fun s4 h4 => ⟨rfl, rfl, h4.fin hQ⟩)⟩)⟩)
  have fx : ∀ {cb nb k pl : Nat} {s1 : MS} {v35 y : Int32}, tF hf s00 cb nb k pl s1 → cb < 3990 → nb ≤ 11 → (∀ s', mTF hf s00 k pl s' → Q none s') → EvM l E w (d + 11) MX10_expression [.ref w.1, .int 0] s1 (fun r s37 => r = none ∧ (EvM l E w (d + 11) MX10_order [.ref w.1, .int 17, .int 0, .int 0, .int y] s37 (fun r s38 => ∃ v39 : Int32, r = some (.int v39) ∧ (EvM l E w (d + 11) MX10_order [.ref w.1, .int 18, .int 0, .int v35, .int y] s38 (fun r s40 => ∃ v41 : Int32, r = some (.int v41) ∧ (EvM l E w (d + 11) MX10_block [.ref w.1, .int 4, .int v41, .int v41] s40 (fun r s42 => r = none ∧ ((none : Option Value) = none ∧ TE l E w d s42 Q)))))))) := fun h1 hcb hnb hQ => tF_expr hst h1 (fun s2 h2 => ⟨rfl, fo h2 hcb hnb hQ⟩)
  refine h8.takeX hst (fun s2 h2 => ⟨rfl, M_nm hst h2 (fun z s3 h3 h66 => ⟨_, rfl, ?_⟩) (fun z1 z2 z3 s3 h3 h66 => ⟨_, rfl, ?_⟩) (fun z1 z2 z3 s3 h3 => ⟨_, rfl, ?_⟩)⟩)
  · have t3 := h3.tF h66 h.ft h.n94
    exact tF_word hst t3 ⟨rfl, fx t3 (by omega) (by omega) (hno z)⟩
  · have t3 := h3.tF h66 h.ft h.n94
    exact tF_word hst t3 ⟨rfl, fx t3 (by omega) (by omega) (hfull z1 z2 z3)⟩
  · refine M_word hst (x := 5) (by omega) h3 (fun z s4 h4 h66 => ⟨rfl, fx (h4.tF h66 h.ft h.n94) (by omega) (by omega) (hin z1 z2 z3 z)⟩) (fun z s4 h4 => ⟨rfl, ?_⟩)
    rcases hx z1 z2 z3 z with ⟨k, pl, hx, hQ⟩ | ⟨q', p1, vs1, O1, c1, B1, hx, hq, hc1, hn, hd', hok⟩
    · exact XE_bad hst hx h4 (fun s5 h5 => ⟨rfl, mFt_order hst h5 (by omega) (fun _ s6 _ h6 _ => ⟨_, rfl, mFt_order hst h6 (by omega) (fun _ s7 _ h7 _ => ⟨_, rfl, eX10_block hst (mFt_opens hst (x := 123) (by decide) h7 (fun s8 h8 h66 => ⟨rfl, tF_blockI (Q := fun _ s42 => (none : Option Value) = none ∧ ((none : Option Value) = none ∧ TE l E w d s42 Q)) (h8.tF h66 h.ft h.n94) (by omega) (fun s9 h9 => ⟨rfl, rfl, h9.fin hQ⟩)⟩))⟩)⟩)⟩)
    · refine XE_ok hst hx hq hc1 h4 (fun s5 h5 => ⟨rfl, ?_⟩)
      refine MP_order hst (od := (17, 0, 0, 0, nI (tk ch n p).2.1)) h5 (by omega) rfl rfl rfl rfl (by show ¬ 17 = 13; omega) (fun s6 h6 _ => ⟨_, rfl, ?_⟩)
      refine MP_order hst (od := (18, 0, nmN vs (tk ch n (tk ch n p).2.2.2).2.2.1, 0, nI (tk ch n p).2.1)) h6 (by omega) rfl rfl rfl rfl (by show ¬ 18 = 13; omega) (fun s7 h7 _ => ⟨_, rfl, ?_⟩)
      exact M_block (zB := (4, 4000 * (1 - hf) + (c1 + 1), 4000 * (1 - hf) + (c1 + 1))) hst h7 h.bl h.fn h.ft (by omega) rfl rfl rfl (fun z s8 h8 => ⟨rfl, rfl, h8.fin (hn z)⟩) (fun y1 y2 y3 s8 h8 => ⟨rfl, rfl, h8.fin (hd' y1 y2 y3)⟩) (fun y1 y2 y3 s8 h8 => ⟨rfl, rfl, hok y1 y2 y3 s8 h8⟩)
/-- try -/
theorem T_try (hst : l.stackTraces = false) (h : mTt ch n hf s00 (((p, o), vs, O, c, B), bk :: Bl, Fn) s) (h1 : (tk ch n p).1 = 1) (hk : kw (tk ch n p) = 9) (hc : c < 3850) (hbl : Bl.length ≤ 9) {t1 : Tok} (et1 : tk ch n (tk ch n p).2.2.2 = t1)
    (hno : ¬ (t1.1 = 3 ∧ t1.2.2.1 = 123) → ∀ s', mTF hf s00 (wk t1) t1.2.1 s' → Q none s') (hdp : t1.1 = 3 → t1.2.2.1 = 123 → o = 10 → ∀ s', mTF hf s00 3 t1.2.1 s' → Q none s')
    (hok : t1.1 = 3 → t1.2.2.1 = 123 → o < 10 → ∀ s', mTt ch n hf s00 (((t1.2.2.2, o + 1), vs, oup (oup O (4000 * (1 - hf) + c) (1, 0, 0, 0, nI (tk ch n p).2.1)) (4000 * (1 - hf) + (c + 1)) (23, 0, 0, 0, 0), c + 1 + 1, B), (5, 4000 * (1 - hf) + (c + 1), 0) :: bk :: Bl, Fn) s' → TE l E w d s' Q) : TE l E w d s Q := by
  subst et1
  have hlen : (bk :: Bl).length = Bl.length + 1 := rfl
  refine st_core hst h (fun z => by omega) (by omega) (by omega) (fun z => ?_) (fun z1 z2 => ?_) (fun _ _ s8 h8 => ?_)
  · simp only [List.mem_cons, List.not_mem_nil, or_false] at z
    omega
  · omega
  refine vX10_statement_93 (kwI_ge (fun _ => ?_) (fun z => by omega))
  refine kwI_is (m := 1) rfl (by omega) (fun z => by omega) (fun _ => And.symm (kwI_is (m := 3) rfl (by omega) (fun z => by omega) (fun _ => And.symm (kwI_is (m := 4) rfl (by omega) (fun z => by omega) (fun _ => And.symm (kwI_is (m := 9) rfl (by omega) (fun _ => ?_) (fun z => absurd hk z)))))))
  refine h8.takeX hst (fun s2 h2 => ⟨rfl, MP_order hst (od := (23, 0, 0, 0, 0)) h2 (by omega) rfl rfl rfl rfl (by show ¬ 23 = 13; omega) (fun s3 h3 _ => ⟨_, rfl, ?_⟩)⟩)
  exact M_block (zB := (5, 4000 * (1 - hf) + (c + 1), 0)) hst h3 h.bl h.fn h.ft (by omega) rfl rfl rfl (fun z s4 h4 => ⟨rfl, rfl, h4.fin (hno z)⟩) (fun y1 y2 y3 s4 h4 => ⟨rfl, rfl, h4.fin (hdp y1 y2 y3)⟩) (fun y1 y2 y3 s4 h4 => ⟨rfl, rfl, hok y1 y2 y3 s4 h4⟩)
end SP4
