/-! EXPRESSIONS OF THE MODEL: calls, a token that is none behind an operand -/
theorem lN_any (x : Int64) : ∃ k, x = lN k := ⟨x.toBitVec.toNat, by
  apply Int64.toBitVec_inj.mp
  show x.toBitVec = BitVec.ofNat 64 x.toBitVec.toNat
  simp⟩
section XE7
variable {l : Launch} {E : EN} {w : MO} {d : Nat} {s s0 s' : MS} {Q : Option Value → MS → Prop} {ch : Nat → Nat} {n hf p p' o o' c k pl : Nat} {vs : List Nat} {O : Nat → Od} {B : List Tok} {X : List XE} {x : XE} {al : Int32} {q q' : Nat × Nat} {z' : PZ}
theorem call80 (hst : l.stackTraces = false) (h : mX ch n hf s0 ((p, o), vs, O, c, B, X) s) (h1 : (tk ch n p).1 = 1) (hw : (11 ≤ kw (tk ch n p) ∧ kw (tk ch n p) < 41) ∨ (kw (tk ch n p) = 41 ∧ bt ch n (sk ch n (tk ch n p).2.2.2) = 40)) (hl : X.length ≤ 74) (hc : c < 3900) (hb : EvM l E w (d + 8) MX10_begins1 [.ref w.1, .int (kwI (tk ch n p)), .int (nI (tk ch n p).2.1)] s (fun r s' => ∃ v : Int32, r = some (.int v) ∧ (v = 0 ∨ v = 1) ∧ Exp l E w d al v s' Q)) : Exp l E w d al 0 s Q := by
  have ht := h.1.tk h.2.1.2
  have h14 : (tk ch n p).1 ≤ 4 := ht.1.1
  have hb' : EvM l E w (d + 8) MX10_begins1 [.ref w.1, .int (kwI (tk ch n p)), .int (nI (tk ch n p).2.1)] s (fun r s11 => ∃ v12 : Int32, r = some (.int v12) ∧ (narrow .boolean (.int v12) = .int v12 ∧ ∃ v : Int32, some (Value.int v12) = some (.int v) ∧ Exp l E w d al v s11 Q)) := hb.mono (fun r s' q => by
    obtain ⟨v, e, hv, q⟩ := q
    refine ⟨v, e, ?_, v, rfl, q⟩
    rcases hv with rfl | rfl <;> rfl)
  refine Exp.go0 h.2.2.1.1 (MP_starts hst h hl hc (fun z => absurd (h1.symm.trans z) (by decide)) (fun z => absurd (h1.symm.trans z) (by decide)) (fun _ _ => ?_))
  refine vX10_starts_80 (M_isSign hst (c := 40) h.2.1.1 ht.1.1 ht.2.1 (by decide) ⟨_, rfl, pk_b (fun _ => ?_) (fun z => absurd (h1.symm.trans z.1) (by decide))⟩)
  refine M_isSign hst (c := 91) h.2.1.1 ht.1.1 ht.2.1 (by decide) ⟨_, rfl, pk_b (fun _ => ?_) (fun z => absurd (h1.symm.trans z.1) (by decide))⟩
  refine bn_eq (tk ch n p).1 1 (fun z => absurd h1 z) (fun z => ?_) h.2.1.1.1 rfl
  refine kwI_ge11 (fun _ _ => hb') (fun y => kwI_ge (fun y2 => absurd hw (by omega)) (fun y2 => ?_))
  have hw' := hw.resolve_left (by omega)
  exact M_isBracket hst h.1.1 h.2.1.1.2.2.1 ht.1.2.2.2.2 ⟨_, rfl, pk_b (fun z => absurd hw'.2 z) (fun _ => hb')⟩
/-- a call's word and bracket -/
theorem beg_core (hst : l.stackTraces = false) (h : mX ch n hf s0 ((p, o), vs, O, c, B, X) s) (h1 : (tk ch n p).1 = 1) (hw : 11 ≤ kw (tk ch n p)) (hl : X.length ≤ 74) (hc : c < 3900) (hB : B.length < 800)
    (hno : ¬ ((tk ch n (tk ch n p).2.2.2).1 = 3 ∧ (tk ch n (tk ch n p).2.2.2).2.2.1 = 40) → ∀ s', mFt ch n hf s0 c (wk (tk ch n (tk ch n p).2.2.2)) (tk ch n (tk ch n p).2.2.2).2.1 s' → ¬ s'.1 66 ≤ 0 → Q (some (.int 0)) s')
    (hdp : (tk ch n (tk ch n p).2.2.2).1 = 3 → (tk ch n (tk ch n p).2.2.2).2.2.1 = 40 → o = 10 → ∀ s', mFt ch n hf s0 c 3 (tk ch n (tk ch n p).2.2.2).2.1 s' → ¬ s'.1 66 ≤ 0 → Q (some (.int 0)) s')
    (hN : kw (tk ch n p) = 41 → (tk ch n (tk ch n p).2.2.2).1 = 3 → (tk ch n (tk ch n p).2.2.2).2.2.1 = 40 → o < 10 → ∀ s', mX ch n hf s0 (((tk ch n (tk ch n p).2.2.2).2.2.2, o + 1), vs, O, c, B, (6, 0, 0, (tk ch n p).2.1, (tk ch n p).2.2.1, (tk ch n p).2.1) :: X) s' → EvM l E w (d + 7) MX10_isSign [.ref w.1, .int 41] s' (fun r s6 => ∃ v7 : Int32, r = some (.int v7) ∧ ((v7 = 0 → Q (some (.int 0)) s6) ∧ (¬ v7 = 0 → (EvM l E w (d + 7) MX10_ends2 [.ref w.1] s6 (fun r s8 => ∃ v9 : Int32, r = some (.int v9) ∧ ((v9 = 0 → Q (some (.int 0)) s8) ∧ (¬ v9 = 0 → Q (some (.int 1)) s8))))))))
    (hU : kw (tk ch n p) < 39 → (tk ch n (tk ch n p).2.2.2).1 = 3 → (tk ch n (tk ch n p).2.2.2).2.2.1 = 40 → o < 10 → ∀ s', mX ch n hf s0 (((tk ch n (tk ch n p).2.2.2).2.2.2, o + 1), vs, O, c, B, (7, kw (tk ch n p) - 11, 0, (tk ch n p).2.1, (tk ch n p).2.2.1, (tk ch n p).2.1) :: X) s' → EvM l E w (d + 7) MX10_isSign [.ref w.1, .int 41] s' (fun r s6 => ∃ v7 : Int32, r = some (.int v7) ∧ ((v7 = 0 → Q (some (.int 0)) s6) ∧ (¬ v7 = 0 → (EvM l E w (d + 7) MX10_ends2 [.ref w.1] s6 (fun r s8 => ∃ v9 : Int32, r = some (.int v9) ∧ ((v9 = 0 → Q (some (.int 0)) s8) ∧ (¬ v9 = 0 → Q (some (.int 1)) s8))))))))
    (hV : 39 ≤ kw (tk ch n p) → kw (tk ch n p) < 41 → (tk ch n (tk ch n p).2.2.2).1 = 3 → (tk ch n (tk ch n p).2.2.2).2.2.1 = 40 → o < 10 → ∀ s' nm, (((tk ch n (tk ch n (tk ch n p).2.2.2).2.2.2).1 = 1 ∨ (tk ch n (tk ch n (tk ch n p).2.2.2).2.2.2).1 = 2) → nm = (tk ch n (tk ch n (tk ch n p).2.2.2).2.2.2).2.2.1) → mX ch n hf s0 (((tk ch n (tk ch n p).2.2.2).2.2.2, o + 1), vs, O, c, B, (8, kw (tk ch n p) - 11, 0, (tk ch n p).2.1, nm, (tk ch n (tk ch n (tk ch n p).2.2.2).2.2.2).2.1) :: X) s' → EvM l E w (d + 7) MX10_isName [.ref w.1] s' (fun r s14 => ∃ v15 : Int32, r = some (.int v15) ∧ ((v15 = 0 → (EvM l E w (d + 7) MX10_wrong [.ref w.1] s14 (fun r s16 => r = none ∧ (EvM l E w (d + 7) MX10_sign [.ref w.1, .int 44] s16 (fun r s17 => r = none ∧ Q (some (.int 0)) s17))))) ∧ (¬ v15 = 0 → (EvM l E w (d + 7) MX10_take [.ref w.1] s14 (fun r s18 => r = none ∧ (EvM l E w (d + 7) MX10_sign [.ref w.1, .int 44] s18 (fun r s19 => r = none ∧ Q (some (.int 0)) s19)))))))) : EvM l E w (d + 8) MX10_begins1 [.ref w.1, .int (kwI (tk ch n p)), .int (nI (tk ch n p).2.1)] s Q := by
  have ht := h.1.tk h.2.1.2
  have h64 : s.2.1 64 = lN (tk ch n p).2.2.1 := h.2.1.1.2.2.2.1 (Or.inl h1)
  have hk41 := kw_le (tk ch n p)
  have i8 : inB (nI X.length) 80 := inB_n (by omega)
  refine eX10_begins1 hst ?_
  intro y1 ey1 y2 ey2
  rw [h64] at ey1
  subst ey1
  refine MP_take hst h.1.1 h.2.1.1.2.2.1 ht.1.2.2.2.2 (fun s3 a b => ⟨rfl, ?_⟩)
  have hs3 := h.tok a b ht.1.2.2.2.2
  refine MP_opens hst (k := 40) hs3 (by decide) (fun z s4 hs4 _ h66 => ⟨rfl, ⟨fun q => absurd q h66, fun _ => hno z s4 hs4 h66⟩⟩) (fun z1 z2 z3 s4 hs4 _ h66 => ⟨rfl, ⟨fun q => absurd q h66, fun _ => hdp z1 z2 z3 s4 hs4 h66⟩⟩) (fun z1 z2 z3 s4 hs4 => ⟨rfl, ⟨fun _ => ?_, fun q => absurd (by rw [hs4.2.2.1.1]; decide) q⟩⟩)
  have ht4 := hs4.1.tk hs4.2.1.2
  have app : ∀ {kd aa : Nat} {s5 : MS} (hk6 : 6 ≤ kd), s5.1 101 = nI (X.length + 1) → (∀ s'' nm na, (∀ j, s''.1 j = s5.1 j) → s''.2.1 = s5.2.1 → (∀ j i, (j = 100 ∧ i = X.length) ∨ s''.2.2.1 j i = s5.2.2.1 j i) → (∀ j i, (j = 99 ∧ i = X.length) ∨ s''.2.2.2 j i = s5.2.2.2 j i) → (6 ≤ kd → s''.2.2.2 99 X.length = lN nm ∧ s''.2.2.1 100 X.length = nI na) → mX ch n hf s0 (((tk ch n (tk ch n p).2.2.2).2.2.2, o + 1), vs, O, c, B, (kd, aa, 0, (tk ch n p).2.1, nm, na) :: X) s'') → ∀ nm na, mX ch n hf s0 (((tk ch n (tk ch n p).2.2.2).2.2.2, o + 1), vs, O, c, B, (kd, aa, 0, (tk ch n p).2.1, nm, na) :: X) (sA (sB s5 99 X.length (lN nm)) 100 X.length (nI na)) := by
    intro kd aa s5 hk6 _ g nm na
    refine g _ nm na (fun _ => rfl) rfl (fun j i => ?_) (fun j i => ?_) (fun _ => ⟨sB_at s5 _ _ _, sA_at _ _ _ _⟩)
    · by_cases e : j = 100 ∧ i = X.length
      · exact Or.inl e
      · exact Or.inr (sA_ne (sB s5 99 X.length (lN nm)) _ e)
    · by_cases e : j = 99 ∧ i = X.length
      · exact Or.inl e
      · exact Or.inr (sB_ne s5 _ e)
  by_cases c41 : kw (tk ch n p) = 41
  · have ek : kwI (tk ch n p) = -1 := by unfold kwI; rw [if_neg (by omega)]
    rw [ek]
    refine ⟨fun z => absurd z (by decide), fun _ => ?_⟩
    refine MP_wait hst (k := 6) (a := 0) (pl := (tk ch n p).2.1) hs4 (by omega) rfl (fun z => absurd rfl z) rfl (by decide) (by decide) (fun z => absurd z (by decide)) (fun z => absurd z (by decide)) (fun s5 _ h101 g => ⟨rfl, ?_⟩)
    rw [h101, show nI (X.length + 1) - 1 = nI X.length from nI_p1 (by omega), nI_clamp (by omega)]
    refine ⟨i8, i8, ⟨fun _ => ?_, fun z => absurd (by decide) z⟩⟩
    exact hN c41 z1 z2 z3 _ (app (by decide) h101 g _ _)
  · have ek : kwI (tk ch n p) = nI (kw (tk ch n p)) := by unfold kwI; rw [if_pos (by omega)]
    rw [ek] at ey2 ⊢
    have ey3 : y2 = nI (kw (tk ch n p) - 11) := by
      rw [ey2]
      exact pk_sub (a := kw (tk ch n p)) (b := 11) hw
    subst ey3
    have hms : nI (kw (tk ch n p) - 11) = nI (mSg (kw (tk ch n p) - 11)) := by
      unfold mSg; rw [if_neg (by omega), if_neg (by omega), if_neg (by omega), if_neg (by omega)]
    refine ⟨fun _ => pk_lt (kw (tk ch n p) - 11) 28 (fun z28 => ?_) (fun z28 => ?_) rfl rfl, fun z => absurd (nI_pos' (by omega)) z⟩
    · refine MP_wait hst (k := 7) (a := kw (tk ch n p) - 11) (pl := (tk ch n p).2.1) hs4 (by omega) rfl (fun _ => hms) rfl (by decide) (by omega) (fun z => absurd z (by decide)) (fun z => absurd z (by decide)) (fun s5 _ h101 g => ⟨rfl, ?_⟩)
      rw [h101, show nI (X.length + 1) - 1 = nI X.length from nI_p1 (by omega), nI_clamp (by omega)]
      refine ⟨i8, i8, ⟨fun z => absurd z (nI_pos (by omega)), fun _ => pk_lt (kw (tk ch n p) - 11) 28 (fun _ => ?_) (fun z => absurd z (by omega)) rfl rfl⟩⟩
      exact hU (by omega) z1 z2 z3 _ (app (by decide) h101 g _ _)
    · refine MP_wait hst (k := 8) (a := kw (tk ch n p) - 11) (pl := (tk ch n p).2.1) hs4 (by omega) rfl (fun _ => hms) rfl (by decide) (by omega) (fun z => absurd z (by decide)) (fun z => absurd z (by decide)) (fun s5 h5 h101 g => ⟨rfl, ?_⟩)
      rw [h101, show nI (X.length + 1) - 1 = nI X.length from nI_p1 (by omega), nI_clamp (by omega)]
      refine ⟨i8, i8, ⟨fun z => absurd z (nI_pos (by omega)), fun _ => pk_lt (kw (tk ch n p) - 11) 28 (fun z => absurd z (by omega)) (fun _ => ⟨i8, i8, ?_⟩) rfl rfl⟩⟩
      have h63 : s5.1 63 = nI (tk ch n (tk ch n (tk ch n p).2.2.2).2.2.2).2.1 := h5.2.1.1.2.1
      have h65 : (tk ch n (tk ch n (tk ch n p).2.2.2).2.2.2).1 = 1 ∨ (tk ch n (tk ch n (tk ch n p).2.2.2).2.2.2).1 = 2 → s5.2.1 64 = lN (tk ch n (tk ch n (tk ch n p).2.2.2).2.2.2).2.2.1 := h5.2.1.1.2.2.2.1
      obtain ⟨nm, hnm, hnm2⟩ : ∃ nm, s5.2.1 64 = lN nm ∧ (((tk ch n (tk ch n (tk ch n p).2.2.2).2.2.2).1 = 1 ∨ (tk ch n (tk ch n (tk ch n p).2.2.2).2.2.2).1 = 2) → nm = (tk ch n (tk ch n (tk ch n p).2.2.2).2.2.2).2.2.1) := by
        by_cases e : (tk ch n (tk ch n (tk ch n p).2.2.2).2.2.2).1 = 1 ∨ (tk ch n (tk ch n (tk ch n p).2.2.2).2.2.2).1 = 2
        · exact ⟨_, h65 e, fun _ => rfl⟩
        · obtain ⟨nm, e2⟩ := lN_any (s5.2.1 64)
          exact ⟨nm, e2, fun z => absurd z e⟩
      rw [h63, hnm]
      refine hV (by omega) (by omega) z1 z2 z3 _ nm hnm2 ?_
      refine g _ nm _ (fun _ => rfl) rfl (fun j i => ?_) (fun j i => ?_) (fun _ => ⟨sB_at _ _ _ _, sA_at _ _ _ _⟩)
      · by_cases e : j = 100 ∧ i = X.length
        · exact Or.inl e
        · exact Or.inr ((sA_ne _ _ e).trans (sA_ne (sB s5 99 X.length _) _ e))
      · by_cases e : j = 99 ∧ i = X.length
        · exact Or.inl e
        · exact Or.inr ((sB_ne _ _ e).trans (sB_ne s5 _ e))
end XE7
