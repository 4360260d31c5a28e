/-! THE MODEL'S STATEMENTS: plain ones, blocks -/
section SN
variable {l : Launch} {E : EN} {w : MO} {d : Nat} {ch : Nat → Nat} {n hf : Nat} {s00 s s0 s1 s' sd : MS} {k pl p p1 p' o o' c c1 c' cb : Nat} {vs vs1 vs' : List Nat} {O O1 O' : Nat → Od} {B B1 B' : List Tok} {X : List XE} {bk : BE} {Bl : List BE} {Fn : List FE} {q' : Nat × Nat} {al : Int32} {Q : Option Value → MS → Prop} {R : MS → Prop} {x1 x2 x3 x4 : Int32}
/-- a sign and an order -/
theorem tl_ok (hst : l.stackTraces = false) {x : Nat} {od : Od} (h : mXg 1 ch n hf s0 ((p, o), vs, O, c, B, []) s1) (hx : x < 128) (hx2 : ¬ (x = 41 ∨ x = 93 ∨ x = 125)) (h3 : (tk ch n p).1 = 3 ∧ (tk ch n p).2.2.1 = x) (hc : c < 3990) (e1 : x1 = nI od.1) (e2 : x2 = (if od.1 = 2 then od.2.2.2.1 else if od.1 = 5 then zsM (nI od.2.1) else nI od.2.1)) (e3 : x3 = nI od.2.2.1) (e4 : x4 = od.2.2.2.2) (h13 : ¬ od.1 = 13) (hR : ∀ s', mXg 1 ch n hf s0 (((tk ch n p).2.2.2, o), vs, oup O (4000 * (1 - hf) + c) od, c + 1, B, []) s' → R s') : EvM l E w (d + 11) MX10_sign [.ref w.1, .int (nI x)] s1 (fun r s11 => r = none ∧ (EvM l E w (d + 11) MX10_order [.ref w.1, .int x1, .int x2, .int x3, .int x4] s11 (fun r s12 => ∃ v13 : Int32, r = some (.int v13) ∧ R s12))) :=
  MP_sign hst h hx (fun z => absurd z hx2) (fun z => absurd h3 z) (fun _ _ s2 h2 _ => ⟨rfl, by
    rw [if_neg hx2] at h2
    exact MP_order hst (od := od) h2 (by omega) e1 e2 e3 e4 h13 (fun s3 h3 _ => ⟨_, rfl, hR s3 h3⟩)⟩)
theorem tl_flt (hst : l.stackTraces = false) {x : Nat} (hx : x < 128) (h : mFt ch n hf s0 cb k pl s1) (hc : cb < 3999) (hR : ∀ s', mFt ch n hf s0 (cb + 1) k pl s' → ¬ s'.1 66 ≤ 0 → R s') : EvM l E w (d + 11) MX10_sign [.ref w.1, .int (nI x)] s1 (fun r s11 => r = none ∧ (EvM l E w (d + 11) MX10_order [.ref w.1, .int x1, .int x2, .int x3, .int x4] s11 (fun r s12 => ∃ v13 : Int32, r = some (.int v13) ∧ R s12))) :=
  mFt_sign hst hx h (fun s2 h2 h66 => ⟨rfl, mFt_order hst h2 hc (fun c' s3 _ h3 e => ⟨_, rfl, hR s3 h3 (by rw [e]; exact h66)⟩)⟩)
theorem mFt_no (hst : l.stackTraces = false) (h : mXg 1 ch n hf s0 ((p, o), vs, O, c, B, []) s1) {x : Nat} (hx : x < 128) (ho : x = 41 ∨ x = 93 ∨ x = 125 → 1 ≤ o) (h3 : ¬ ((tk ch n p).1 = 3 ∧ (tk ch n p).2.2.1 = x)) (hQ : ∀ s', mFt ch n hf s0 c (wk (tk ch n p)) (tk ch n p).2.1 s' → ¬ s'.1 66 ≤ 0 → Q none s') : EvM l E w (d + 4) MX10_sign [.ref w.1, .int (nI x)] s1 Q :=
  MP_sign hst h hx ho (fun _ hF => hQ _ hF (by show ¬ (nI (wk (tk ch n p)) : Int32) ≤ 0; unfold wk; split <;> decide)) (fun z1 z2 => absurd ⟨z1, z2⟩ h3)
theorem tl_no (hst : l.stackTraces = false) {x : Nat} (h : mXg 1 ch n hf s0 ((p, o), vs, O, c, B, []) s1) (hx : x < 128) (hx2 : ¬ (x = 41 ∨ x = 93 ∨ x = 125)) (h3 : ¬ ((tk ch n p).1 = 3 ∧ (tk ch n p).2.2.1 = x)) (hc : c < 3990) (hR : ∀ s', mFt ch n hf s0 (c + 1) (wk (tk ch n p)) (tk ch n p).2.1 s' → ¬ s'.1 66 ≤ 0 → R s') : EvM l E w (d + 11) MX10_sign [.ref w.1, .int (nI x)] s1 (fun r s11 => r = none ∧ (EvM l E w (d + 11) MX10_order [.ref w.1, .int x1, .int x2, .int x3, .int x4] s11 (fun r s12 => ∃ v13 : Int32, r = some (.int v13) ∧ R s12))) :=
  mFt_no hst h hx (fun z => absurd z hx2) h3 (fun s2 h2 h66 => ⟨rfl, mFt_order hst h2 (by omega) (fun c' s3 _ h3 e => ⟨_, rfl, hR s3 h3 (by rw [e]; exact h66)⟩)⟩)
theorem mFt.te (h : mFt ch n hf s cb k pl s') (h66 : ¬ s'.1 66 ≤ 0) (hT : mTt ch n hf s00 (((p, o), vs, O, c, B), Bl, Fn) s) (hQ : ∀ s, mTF hf s00 k pl s → Q none s) : TE l E w d s' Q :=
  (h.tF h66 hT.2.2.2 hT.2.1.1).fin hQ
/-- no statement begins so -/
theorem TB_st (hst : l.stackTraces = false) (hns : ¬ ((tk ch n p).1 = 3 ∧ (tk ch n p).2.2.1 = 125)) (hc : c < 3900) (hbl : Bl.length ≤ 10) (hb : ¬ (tk ch n p).1 = 1 ∨ kw (tk ch n p) ∈ [0, 2, 5, 10]) : TBt l E w d ch n hf s00 (((p, o), vs, O, c, B), bk :: Bl, Fn) (wk (tk ch n p)) (tk ch n p).2.1 := by
  intro Q hQ s h
  have hk : (tk ch n p).1 = 1 → kw (tk ch n p) ∈ [0, 2, 5, 10] := fun z => hb.resolve_left (fun y => y z)
  refine st_core hst h hns hc hbl (fun _ s' h' h66 => h'.te h66 h hQ) (fun z1 z2 => ?_) (fun z1 z2 => ?_)
  · have := hk z1
    simp only [List.mem_cons, List.not_mem_nil, or_false] at this
    omega
  · have := hk z1
    simp only [List.mem_cons, List.not_mem_nil, or_false] at this z2
    omega
/-- a call alone -/
theorem TF_alone (hst : l.stackTraces = false) (h1 : (tk ch n p).1 = 1) (hw : (11 ≤ kw (tk ch n p) ∧ kw (tk ch n p) < 41) ∨ (kw (tk ch n p) = 41 ∧ bt ch n (sk ch n (tk ch n p).2.2.2) = 40)) (hc : c < 3900) (hbl : Bl.length ≤ 10) (hx : XF l E w (d + 1) 1 ch n hf sd (0, 0) ((p, o), vs, oup O (4000 * (1 - hf) + c) (1, 0, 0, 0, nI (tk ch n p).2.1), c + 1, B, []) (1, 0) ((p1, o), vs1, O1, c1, B1, [])) (h59 : (tk ch n p1).1 = 3 ∧ (tk ch n p1).2.2.1 = 59) (hc1 : c1 < 3900) : TF l E w d ch n hf s00 (((p, o), vs, O, c, B), bk :: Bl, Fn) ((((tk ch n p1).2.2.2, o), vs1, oup O1 (4000 * (1 - hf) + c1) (22, 0, 0, 0, nI (tk ch n p).2.1), c1 + 1, B1), bk :: Bl, Fn) := by
  intro Q hQ s h
  refine st_core hst h (fun z => by omega) hc hbl (fun z => ?_) (fun _ _ s8 h8 => XE_al hst hx h8 (fun s2 h2 => ⟨rfl, tl_ok hst (od := (22, 0, 0, 0, nI (tk ch n p).2.1)) h2 (by decide) (by decide) h59 (by omega) rfl rfl rfl rfl (by show ¬ 22 = 13; omega) (fun s3 h3 => ⟨rfl, hQ s3 (h.of h3)⟩)⟩)) (fun z1 z2 => ?_)
  · simp only [List.mem_cons, List.not_mem_nil, or_false] at z
    omega
  · simp only [List.mem_cons, List.not_mem_nil, or_false] at z2
    omega
theorem TB_alone (hst : l.stackTraces = false) (h1 : (tk ch n p).1 = 1) (hw : (11 ≤ kw (tk ch n p) ∧ kw (tk ch n p) < 41) ∨ (kw (tk ch n p) = 41 ∧ bt ch n (sk ch n (tk ch n p).2.2.2) = 40)) (hc : c < 3900) (hbl : Bl.length ≤ 10) (hx : XB l E w (d + 1) 1 ch n hf sd (0, 0) ((p, o), vs, oup O (4000 * (1 - hf) + c) (1, 0, 0, 0, nI (tk ch n p).2.1), c + 1, B, []) k pl ∨ ∃ p1 vs1 O1 c1 B1, XF l E w (d + 1) 1 ch n hf sd (0, 0) ((p, o), vs, oup O (4000 * (1 - hf) + c) (1, 0, 0, 0, nI (tk ch n p).2.1), c + 1, B, []) (1, 0) ((p1, o), vs1, O1, c1, B1, []) ∧ ¬ ((tk ch n p1).1 = 3 ∧ (tk ch n p1).2.2.1 = 59) ∧ c1 < 3900 ∧ k = wk (tk ch n p1) ∧ pl = (tk ch n p1).2.1) : TBt l E w d ch n hf s00 (((p, o), vs, O, c, B), bk :: Bl, Fn) k pl := by
  intro Q hQ s h
  refine st_core hst h (fun z => by omega) hc hbl (fun z => ?_) (fun _ _ s8 h8 => ?_) (fun z1 z2 => ?_)
  · simp only [List.mem_cons, List.not_mem_nil, or_false] at z
    omega
  · rcases hx with hx | ⟨p1, vs1, O1, c1, B1, hx, h59, hc1, rfl, rfl⟩
    · exact XE_bad hst hx h8 (fun s2 h2 => ⟨rfl, tl_flt hst (by decide) h2 (by decide) (fun s3 h3 h66 => ⟨rfl, h3.te h66 h hQ⟩)⟩)
    · exact XE_al hst hx h8 (fun s2 h2 => ⟨rfl, tl_no hst h2 (by decide) (by decide) h59 (by omega) (fun s3 h3 h66 => ⟨rfl, h3.te h66 h hQ⟩)⟩)
  · simp only [List.mem_cons, List.not_mem_nil, or_false] at z2
    omega
theorem mXg.takeX {g : Nat} (hst : l.stackTraces = false) (h : mXg g ch n hf s0 ((p, o), vs, O, c, B, X) s1) (hQ : ∀ s', mXg g ch n hf s0 (((tk ch n p).2.2.2, o), vs, O, c, B, X) s' → Q none s') : EvM l E w (d + 3) MX10_take [.ref w.1] s1 Q := by
  have ht := h.1.tk h.2.1.2
  exact MP_take hst h.1.1 h.2.1.1.2.2.1 ht.1.2.2.2.2 (fun s' f' t' => hQ s' (h.tok f' t' ht.1.2.2.2.2))
/-- say, return, raise -/
theorem st_plain (hst : l.stackTraces = false) (h8 : mXg 1 ch n hf s0 ((p, o), vs, O, c, B, []) s1) (hk : 6 ≤ kw (tk ch n p)) (hk8 : kw (tk ch n p) ≤ 8) {y : Int32}
    (hx : ∀ s1, mXg 1 ch n hf s0 (((tk ch n p).2.2.2, o), vs, O, c, B, []) s1 → EvM l E w (d + 11) MX10_expression [.ref w.1, .int 0] s1 (fun r s21 => r = none ∧ (EvM l E w (d + 11) MX10_sign [.ref w.1, .int 59] s21 (fun r s22 => r = none ∧ EvM l E w (d + 11) MX10_order [.ref w.1, .int (nI (kw (tk ch n p) + 13)), .int 0, .int 0, .int y] s22 (fun r s23 => ∃ v24 : Int32, r = some (.int v24) ∧ Q none s23))))) : ExM l E w (d + 12) MX10_statement 93 [some (.ref w.1), some (.int y), some (.int (kwI (tk ch n p))), none, none] [] s1 Q := by
  refine vX10_statement_93 (kwI_ge (fun _ => ?_) (fun z => by omega))
  refine kwI_is (m := 1) rfl (by omega) (fun z => by omega) (fun _ => And.symm (kwI_is (m := 3) rfl (by omega) (fun z => by omega) (fun _ => And.symm (kwI_is (m := 4) rfl (by omega) (fun z => by omega) (fun _ => And.symm (kwI_is (m := 9) rfl (by omega) (fun z => by omega) (fun _ => ?_)))))))
  refine h8.takeX hst (fun s2 h2 => ⟨rfl, EvM.mono (fun r s3 h3 => ⟨h3.1, EvM.mono (fun r s4 h4 => ⟨h4.1, ?_⟩) h3.2⟩) (hx s2 h2)⟩)
  have h4 := h4.2
  refine And.symm (kwI_is (m := 6) rfl (by omega) (fun z => by rw [z] at h4; exact h4) (fun n6 => And.symm (kwI_is (m := 7) rfl (by omega) (fun z => by rw [z] at h4; exact h4) (fun n7 => ?_))))
  have : kw (tk ch n p) = 8 := by omega
  rw [this] at h4; exact h4
theorem TF_plain (hst : l.stackTraces = false) (h1 : (tk ch n p).1 = 1) (hk : 6 ≤ kw (tk ch n p)) (hk8 : kw (tk ch n p) ≤ 8) (hc : c < 3900) (hbl : Bl.length ≤ 10) (hx : XF l E w (d + 1) 0 ch n hf sd (0, 0) (((tk ch n p).2.2.2, o), vs, oup O (4000 * (1 - hf) + c) (1, 0, 0, 0, nI (tk ch n p).2.1), c + 1, B, []) q' ((p1, o), vs1, O1, c1, B1, [])) (hq : okE q' (tk ch n p1)) (h59 : (tk ch n p1).1 = 3 ∧ (tk ch n p1).2.2.1 = 59) (hc1 : c1 < 3900) : TF l E w d ch n hf s00 (((p, o), vs, O, c, B), bk :: Bl, Fn) ((((tk ch n p1).2.2.2, o), vs1, oup O1 (4000 * (1 - hf) + c1) (kw (tk ch n p) + 13, 0, 0, 0, nI (tk ch n p).2.1), c1 + 1, B1), bk :: Bl, Fn) := by
  intro Q hQ s h
  refine st_core hst h (fun z => by omega) hc hbl (fun z => ?_) (fun z1 z2 => ?_) (fun _ _ s8 h8 => st_plain hst h8 hk hk8 (fun s1 h1' => XE_ok hst hx hq hc1 h1' (fun s2 h2 => ⟨rfl, tl_ok hst (od := (kw (tk ch n p) + 13, 0, 0, 0, nI (tk ch n p).2.1)) h2 (by decide) (by decide) h59 (by omega) rfl ?_ rfl rfl (by show ¬ kw (tk ch n p) + 13 = 13; omega) (fun s3 h3 => ⟨rfl, hQ s3 (h.of h3)⟩)⟩)))
  · simp only [List.mem_cons, List.not_mem_nil, or_false] at z
    omega
  · omega
  · show (0 : Int32) = if kw (tk ch n p) + 13 = 2 then 0 else if kw (tk ch n p) + 13 = 5 then zsM (nI 0) else nI 0
    rw [if_neg (by omega), if_neg (by omega)]; rfl
theorem TB_plain (hst : l.stackTraces = false) (h1 : (tk ch n p).1 = 1) (hk : 6 ≤ kw (tk ch n p)) (hk8 : kw (tk ch n p) ≤ 8) (hc : c < 3900) (hbl : Bl.length ≤ 10) (hx : XB l E w (d + 1) 0 ch n hf sd (0, 0) (((tk ch n p).2.2.2, o), vs, oup O (4000 * (1 - hf) + c) (1, 0, 0, 0, nI (tk ch n p).2.1), c + 1, B, []) k pl ∨ ∃ q' p1 vs1 O1 c1 B1, XF l E w (d + 1) 0 ch n hf sd (0, 0) (((tk ch n p).2.2.2, o), vs, oup O (4000 * (1 - hf) + c) (1, 0, 0, 0, nI (tk ch n p).2.1), c + 1, B, []) q' ((p1, o), vs1, O1, c1, B1, []) ∧ okE q' (tk ch n p1) ∧ ¬ ((tk ch n p1).1 = 3 ∧ (tk ch n p1).2.2.1 = 59) ∧ c1 < 3900 ∧ k = wk (tk ch n p1) ∧ pl = (tk ch n p1).2.1) : TBt l E w d ch n hf s00 (((p, o), vs, O, c, B), bk :: Bl, Fn) k pl := by
  intro Q hQ s h
  refine st_core hst h (fun z => by omega) hc hbl (fun z => ?_) (fun z1 z2 => ?_) (fun _ _ s8 h8 => st_plain hst h8 hk hk8 (fun s1 h1' => ?_))
  · simp only [List.mem_cons, List.not_mem_nil, or_false] at z
    omega
  · omega
  · rcases hx with hx | ⟨q', p1, vs1, O1, c1, B1, hx, hq, h59, hc1, rfl, rfl⟩
    · exact XE_bad hst hx h1' (fun s2 h2 => ⟨rfl, tl_flt hst (by decide) h2 (by decide) (fun s3 h3 h66 => ⟨rfl, h3.te h66 h hQ⟩)⟩)
    · exact XE_ok hst hx hq hc1 h1' (fun s2 h2 => ⟨rfl, tl_no hst h2 (by decide) (by decide) h59 (by omega) (fun s3 h3 h66 => ⟨rfl, h3.te h66 h hQ⟩)⟩)
end SN
