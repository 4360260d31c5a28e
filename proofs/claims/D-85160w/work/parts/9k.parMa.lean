/-! EXPRESSIONS OF THE MODEL: signs between, what can't come, where an operand begins -/
section XE5
variable {l : Launch} {E : EN} {w : MO} {d : Nat} {s s0 s' : MS} {Q : Option Value → MS → Prop} {ch : Nat → Nat} {n hf p p' o o' c k pl : Nat} {vs : List Nat} {O : Nat → Od} {B : List Tok} {X : List XE} {x : XE} {al : Int32} {q q' : Nat × Nat} {z' : PZ}
theorem XF_sign (hst : l.stackTraces = false) (h3 : (tk ch n p).1 = 3) (hv : sgV (tk ch n p).2.2.1) (hk : (if slv (tk ch n p).2.2.1 = 1 then 2 else slv (tk ch n p).2.2.1) ≤ k) (hX : ∀ x X', X = x :: X' → x.1 = 1 → slv x.2.1 < slv (tk ch n p).2.2.1) (hX2 : ¬ topk X = 2) (hal : al = 0 ∨ ¬ X = []) (hl : X.length ≤ 74) (hc : c < 3900) : XF l E w d al ch n hf s0 (2, k) ((p, o), vs, O, c, B, X) (0, 0) (((tk ch n p).2.2.2, o), vs, O, c, B, (1, (tk ch n p).2.2.1, 0, (tk ch n p).2.1, 0, 0) :: X) := by
  intro s0 Q hQ s h
  rw [hv1 (show ¬ 2 = 0 by decide)]
  obtain ⟨Y, O0, c0, ⟨⟨a, Y', rfl, ha, hY⟩, hlen⟩, ec, eO, h⟩ : ∃ (Y : List XE) (O0 : Nat → Od) (c0 : Nat), (okP k Y ∧ Y.length + k ≤ 5) ∧ c = c0 + Y.length ∧ O = oem (4000 * (1 - hf)) O0 c0 Y ∧ mX ch n hf s0 ((p, o), vs, O0, c0, B, Y ++ X) s := by
    unfold mP at h
    rw [if_neg (show ¬ 2 ≤ 1 by decide), if_pos rfl] at h
    exact h
  rw [oem_app] at eO
  rw [List.length_append] at ec hlen
  have hsl := sgV_slv hv
  have h : mX ch n hf s0 ((p, o), vs, O0, c0, B, a ++ (Y' ++ X)) s := by rw [← List.append_assoc]; exact h
  have hYX : (Y' ++ X).length ≤ 80 := by rw [List.length_append]; omega
  have ht := h.1.tk h.2.1.2
  refine Exp.it1 hst ha h ?_ (by rw [List.length_append, List.length_append]; omega) (by omega) (fun z => topk_app (fun y hy => (hY y hy).1) hX2 z.2) (fun z => ?_) (fun s1 hs1 z9 => ?_) (fun s1 hs1 _ _ => ?_)
  · rcases hal with e | e
    · exact Or.inl e
    · exact Or.inr (fun z => e (List.append_eq_nil_iff.mp (List.append_eq_nil_iff.mp z).2).2)
  · rw [z.2] at hv; revert hv; unfold sgV; decide
  · have : lvT (tk ch n p) = slv (tk ch n p).2.2.1 := if_pos h3
    omega
  · have hr3 : (if slv (tk ch n p).2.2.1 = 1 then 2 else slv (tk ch n p).2.2.1) ≤ 3 := by split <;> omega
    have hr4 : slv (tk ch n p).2.2.1 ≤ (if slv (tk ch n p).2.2.1 = 1 then 2 else slv (tk ch n p).2.2.1) := by split <;> omega
    refine MP_reduceE hst hr3 hs1 (by omega) hYX (fun y hy => ⟨(hY y hy).1, Nat.le_trans hk (hY y hy).2⟩) (fun x X' e z => Nat.lt_of_lt_of_le (hX x X' e z) hr4) (fun s2 hs2 => ⟨rfl, ?_⟩)
    rw [← eO, show c0 + a.length + Y'.length = c by omega] at hs2
    have fin : EvM l E w (d + 9) MX10_wait [.ref w.1, .int 1, .int (s2.2.1 64).toInt32, .int (s2.1 63)] s2 (fun r s4 => r = none ∧ (EvM l E w (d + 9) MX10_take [.ref w.1] s4 (fun r s5 => r = none ∧ Exp l E w d al 0 s5 Q))) := by
      have h64 : s2.2.1 64 = lN (mSg (tk ch n p).2.2.1) := hs2.2.1.1.2.2.2.2 h3
      rw [h64, lN_i32 (Nat.lt_trans (slvI_m (sgV_128 hv)).1 (by omega))]
      refine MP_wait1 hst (k := 1) (a := (tk ch n p).2.2.1) (pl := (tk ch n p).2.1) hs2 (by omega) rfl rfl hs2.2.1.1.2.1 (by decide) (by omega) (fun _ => hv) (fun z => absurd z (by decide)) (fun s4 hs4 => ⟨rfl, ?_⟩)
      exact MP_take hst hs4.1.1 hs4.2.1.1.2.2.1 ht.1.2.2.2.2 (fun s5 a b => ⟨rfl, hQ s5 (mP0 (hs4.tok a b ht.1.2.2.2.2))⟩)
    refine vX10_expression_152 ⟨fun z => absurd z (nI_pos (by omega)), fun _ => bn_eq (slv (tk ch n p).2.2.1) 1 (fun _ => fin) (fun e1 => ?_) rfl rfl⟩
    refine MP_isWaiting hst (k := 1) hs2 (by omega) (by decide) (by decide) ⟨_, rfl, pk_b (fun _ => fin) (fun z => ?_)⟩
    cases X with
    | nil => exact absurd z (by decide)
    | cons x X' =>
      have zx : x.1 = 1 := z
      have hlt := hX x X' rfl zx
      obtain ⟨-, g, -, eg⟩ := hs2.pop
      have hsg := g.2.2.2.2.2.2.1 zx
      have hl' : X'.length + 1 ≤ 74 := hl
      rw [eg, nI_clamp (by omega), g.2.1 (by omega)]
      refine ⟨inB_n (by omega), MP_levelOf hst (sgV_128 hsg) ⟨_, rfl, ?_⟩⟩
      rw [slvI_V hsg]
      exact pk_eq (slv x.2.1) 1 (fun y => absurd y (by omega)) (fun _ => fin) rfl rfl
theorem MP_waitF (hst : l.stackTraces = false) {cb m : Nat} {x1 x2 x3 : Int32} (h : mFt ch n hf s0 cb k pl s) (hm : s.1 101 = nI m) (hm2 : m < 80) (hQ : ∀ s', mFt ch n hf s0 cb k pl s' → s'.1 66 = s.1 66 → Q none s') : EvM l E w d MX10_wait [.ref w.1, .int x1, .int x2, .int x3] s Q := by
  refine eX10_wait hst ?_
  rw [hm, nI_clamp (by omega)]
  refine ⟨inB_n hm2, inB_n hm2, inB_n hm2, inB_n hm2, hQ _ ⟨h.1.fr ((mfX.sA _ _ 95 _ _ (by decide) (Or.inl (by decide))).trans ((mfX.sA _ _ 96 _ _ (by decide) (Or.inl (by decide))).trans ((mfX.sA _ _ 97 _ _ (by decide) (Or.inl (by decide))).trans ((mfX.sA _ _ 98 _ _ (by decide) (Or.inl (by decide))).trans (mfX.sI _ _ 101 _))))), h.2.1, h.2.2⟩ rfl⟩
/-- behind an operand: [ -/
theorem at_core (hst : l.stackTraces = false) (h3 : (tk ch n p).1 = 3) (h91 : (tk ch n p).2.2.1 = 91) (hal : al = 0 ∨ ¬ X = []) (hl : X.length ≤ 74) (h : mX ch n hf s0 ((p, o), vs, O, c, B, X) s) (hok : o < 10 → ∀ s', mX ch n hf s0 (((tk ch n p).2.2.2, o + 1), vs, O, c, B, (4, 0, 0, (tk ch n p).2.1, 0, 0) :: X) s' → Exp l E w d al 0 s' Q) (hdp : o = 10 → ∀ s', mFt ch n hf s0 c 3 (tk ch n p).2.1 s' → ¬ s'.1 66 ≤ 0 → Exp l E w d al 0 s' Q) : Exp l E w d al 1 s Q := by
  have ht := h.1.tk h.2.1.2
  have mid : EvM l E w (d + 9) MX10_isSign [.ref w.1, .int 91] s (fun r s1 => ∃ v2 : Int32, r = some (.int v2) ∧ ((v2 = 0 → False) ∧ (¬ v2 = 0 → (∀ y15 : Int32, y15 = (s1.1 63) → (EvM l E w (d + 9) MX10_opens [.ref w.1, .int 91] s1 (fun r s16 => r = none ∧ (EvM l E w (d + 9) MX10_wait [.ref w.1, .int 4, .int 0, .int y15] s16 (fun r s17 => r = none ∧ Exp l E w d al 0 s17 Q)))))))) :=
    M_isSign hst (c := 91) h.2.1.1 ht.1.1 ht.2.1 (by decide) ⟨_, rfl, pk_b (fun z => absurd ⟨h3, h91⟩ z) (fun _ y ey => MP_opens hst (k := 91) h (by decide) (fun z => absurd ⟨h3, h91⟩ z) (fun _ _ z s1 hs1 h101 h66 => ⟨rfl, MP_waitF hst hs1 (h101 (Nat.le_refl _)) (by omega) (fun s2 hs2 e66 => ⟨rfl, hdp z s2 hs2 (by rw [e66]; exact h66)⟩)⟩) (fun _ _ ho s1 hs1 => ⟨rfl, MP_wait1 hst (k := 4) (a := 0) (pl := (tk ch n p).2.1) hs1 (by omega) rfl rfl (ey.trans h.2.1.1.2.1) (by decide) (by decide) (fun z => absurd z (by decide)) (fun z => absurd z (by decide)) (fun s2 hs2 => ⟨rfl, hok ho s2 hs2⟩)⟩))⟩
  refine vX10_expression_7 ⟨fun z => absurd h.2.2.1.1 z, fun _ => ⟨fun _ => ⟨fun _ => ?_, fun hz => ⟨fun _ => ?_, fun z => ?_⟩⟩, fun z => absurd z (by decide)⟩⟩
  · exact mid.mono (fun r s' q => by obtain ⟨v, e, q1, q2⟩ := q; exact ⟨v, e, fun z => (q1 z).elim, q2⟩)
  · exact mid.mono (fun r s' q => by obtain ⟨v, e, q1, q2⟩ := q; exact ⟨v, e, fun z => (q1 z).elim, q2⟩)
  · rcases hal with e | e
    · exact absurd e hz
    · have hlen := h.len
      rw [hlen] at z
      have : X.length = 0 := (nI_eq (b := 0) (by omega) (by decide)).mp z
      exact absurd (List.eq_nil_of_length_eq_zero this) e
theorem XF_at (hst : l.stackTraces = false) (h3 : (tk ch n p).1 = 3) (h91 : (tk ch n p).2.2.1 = 91) (ho : o < 10) (hal : al = 0 ∨ ¬ X = []) (hl : X.length ≤ 74) : XF l E w d al ch n hf s0 (1, 0) ((p, o), vs, O, c, B, X) (0, 0) (((tk ch n p).2.2.2, o + 1), vs, O, c, B, (4, 0, 0, (tk ch n p).2.1, 0, 0) :: X) :=
  fun s0 Q hQ s hs => by
    rw [hv1 (by decide)]
    exact at_core hst h3 h91 hal hl (mP1' hs) (fun _ s' hs' => hQ s' (mP0 hs')) (fun z => absurd z (by omega))
theorem XB_at (hst : l.stackTraces = false) (h3 : (tk ch n p).1 = 3) (h91 : (tk ch n p).2.2.1 = 91) (ho : o = 10) (hc : c < 3900) (hal : al = 0 ∨ ¬ X = []) (hl : X.length ≤ 74) : XB l E w d al ch n hf s0 (1, 0) ((p, o), vs, O, c, B, X) 3 (tk ch n p).2.1 :=
  fun s0 Q hQ s hs => by
    rw [hv1 (by decide)]
    exact at_core hst h3 h91 hal hl (mP1' hs) (fun z => absurd z (by omega)) (fun _ s' hs' h66 => hs'.fin h66 (by omega) hQ)
/-! where an operand begins -/
theorem MP_starts (hst : l.stackTraces = false) (h : mX ch n hf s0 ((p, o), vs, O, c, B, X) s) (hl : X.length ≤ 74) (hc : c < 3900)
    (hnum : (tk ch n p).1 = 2 → ∀ s', mX ch n hf s0 (((tk ch n p).2.2.2, o), vs, oup O (4000 * (1 - hf) + c) (2, 0, 0, nI (tk ch n p).2.2.1, nI (tk ch n p).2.1), c + 1, B, X) s' → Q (some (.int 1)) s')
    (hah : (tk ch n p).1 = 3 → (tk ch n p).2.2.1 = 45 ∨ (tk ch n p).2.2.1 = 33 → ¬ topk X = 2 → ∀ s', mX ch n hf s0 (((tk ch n p).2.2.2, o), vs, O, c, B, (2, (tk ch n p).2.2.1, 0, (tk ch n p).2.1, 0, 0) :: X) s' → Q (some (.int 0)) s')
    (h80 : ¬ (tk ch n p).1 = 2 → ¬ ((tk ch n p).1 = 3 ∧ ((tk ch n p).2.2.1 = 45 ∨ (tk ch n p).2.2.1 = 33) ∧ ¬ topk X = 2) → ExM l E w (d + 9) MX10_starts 80 [some (.ref w.1), some (.int (nI (tk ch n p).2.1)), some (.int (kwI (tk ch n p))), none] [] s Q) : EvM l E w (d + 9) MX10_starts [.ref w.1] s Q := by
  have ht := h.1.tk h.2.1.2
  have h14 : (tk ch n p).1 ≤ 4 := ht.1.1
  refine eX10_starts hst ?_
  intro y ey
  rw [h.2.1.1.2.1] at ey
  subst ey
  have ahd : (tk ch n p).1 = 3 → (tk ch n p).2.2.1 = 45 ∨ (tk ch n p).2.2.1 = 33 → ¬ topk X = 2 → EvM l E w (d + 8) MX10_wait [.ref w.1, .int 2, .int (s.2.1 64).toInt32, .int (nI (tk ch n p).2.1)] s (fun r s8 => r = none ∧ (EvM l E w (d + 8) MX10_take [.ref w.1] s8 (fun r s9 => r = none ∧ Q (some (.int 0)) s9))) := by
    intro z3 zv zt
    have hah := hah z3 zv zt
    have h64 : s.2.1 64 = lN (mSg (tk ch n p).2.2.1) := h.2.1.1.2.2.2.2 z3
    rw [h64, lN_i32 (Nat.lt_trans (slvI_m (tk_sg z3)).1 (by omega))]
    refine MP_wait1 hst (k := 2) (a := (tk ch n p).2.2.1) (pl := (tk ch n p).2.1) h (by omega) rfl rfl rfl (by decide) (by omega) (fun z => absurd z (by decide)) (fun _ => by omega) (fun s4 hs4 => ⟨rfl, ?_⟩)
    exact MP_take hst hs4.1.1 hs4.2.1.1.2.2.1 ht.1.2.2.2.2 (fun s5 a b => ⟨rfl, hah s5 (hs4.tok a b ht.1.2.2.2.2)⟩)
  refine M_wordHere hst h.1.2.1 h.2.1.1 ht.1.1 ht.2.1 ⟨_, rfl, bn_eq (tk ch n p).1 2 (fun n2 => ?_) (fun e2 => ?_) h.2.1.1.1 rfl⟩
  · refine M_isSign hst (c := 45) h.2.1.1 ht.1.1 ht.2.1 (by decide) ⟨_, rfl, bn_b (fun n45 => ?_) (fun e45 => ?_)⟩
    · refine M_isSign hst (c := 33) h.2.1.1 ht.1.1 ht.2.1 (by decide) ⟨_, rfl, pk_b (fun n33 => ?_) (fun e33 => ?_)⟩
      · exact h80 n2 (fun z => by rcases z.2.1 with y | y; exact n45 ⟨z.1, y⟩; exact n33 ⟨z.1, y⟩)
      · refine MP_isWaiting hst (k := 2) h (by omega) (by decide) (by decide) ⟨_, rfl, bn_b (fun z => ?_) (fun z => ?_)⟩
        · exact ahd e33.1 (Or.inr e33.2) z
        · exact h80 n2 (fun y => y.2.2 z)
    · refine MP_isWaiting hst (k := 2) h (by omega) (by decide) (by decide) ⟨_, rfl, bn_b (fun z => ?_) (fun z => ?_)⟩
      · exact ahd e45.1 (Or.inl e45.2) z
      · exact h80 n2 (fun y => y.2.2 z)
  · have h64 : s.2.1 64 = lN (tk ch n p).2.2.1 := h.2.1.1.2.2.2.1 (Or.inr e2)
    rw [h64, lN_i32 (ht.2.2.1 e2)]
    refine MP_order hst (od := (2, 0, 0, nI (tk ch n p).2.2.1, nI (tk ch n p).2.1)) h (by omega) rfl rfl rfl rfl (Nat.ne_of_beq_eq_false rfl) (fun s1 hs1 _ => ⟨_, rfl, ?_⟩)
    exact MP_take hst hs1.1.1 hs1.2.1.1.2.2.1 ht.1.2.2.2.2 (fun s5 a b => ⟨rfl, hnum e2 s5 (hs1.tok a b ht.1.2.2.2.2)⟩)
theorem XF_num (hst : l.stackTraces = false) (h2 : (tk ch n p).1 = 2) (hl : X.length ≤ 74) (hc : c < 3900) : XF l E w d al ch n hf s0 (0, 0) ((p, o), vs, O, c, B, X) (1, 0) (((tk ch n p).2.2.2, o), vs, oup O (4000 * (1 - hf) + c) (2, 0, 0, nI (tk ch n p).2.2.1, nI (tk ch n p).2.1), c + 1, B, X) :=
  fun s0 Q hQ s hs => Exp.go0 (mP0' hs).2.2.1.1 (MP_starts hst (mP0' hs) hl hc (fun _ s' hs' => ⟨_, rfl, hQ s' (mP1 hs')⟩) (fun z => absurd (h2.symm.trans z) (by decide)) (fun z => absurd h2 z))
theorem XF_ahead (hst : l.stackTraces = false) (h3 : (tk ch n p).1 = 3) (hv : (tk ch n p).2.2.1 = 45 ∨ (tk ch n p).2.2.1 = 33) (ht : ¬ topk X = 2) (hl : X.length ≤ 74) (hc : c < 3900) : XF l E w d al ch n hf s0 (0, 0) ((p, o), vs, O, c, B, X) (0, 0) (((tk ch n p).2.2.2, o), vs, O, c, B, (2, (tk ch n p).2.2.1, 0, (tk ch n p).2.1, 0, 0) :: X) :=
  fun s0 Q hQ s hs => Exp.go0 (mP0' hs).2.2.1.1 (MP_starts hst (mP0' hs) hl hc (fun z => absurd (h3.symm.trans z) (by decide)) (fun _ _ _ s' hs' => ⟨_, rfl, hQ s' (mP0 hs')⟩) (fun _ z => absurd ⟨h3, hv, ht⟩ z))
end XE5
