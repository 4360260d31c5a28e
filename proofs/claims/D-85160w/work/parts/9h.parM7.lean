/-! EXPRESSIONS OF THE MODEL: the end of what is open -/
def pmst (b : Nat) : Nat := if b = 5 then 6 else if b = 3 ∨ 19 ≤ b then 2 else 1
section XE2
variable {l : Launch} {E : EN} {w : MO} {d : Nat} {s s0 s' : MS} {Q : Option Value → MS → Prop} {ch : Nat → Nat} {n hf p p' o o' c : Nat} {vs : List Nat} {O : Nat → Od} {B : List Tok} {X : List XE} {x : XE} {al : Int32}
theorem MP_reduceE (hst : l.stackTraces = false) {r : Nat} (hr : r ≤ 3) {Y : List XE} {O : Nat → Od} {c : Nat} {s : MS} (h : mX ch n hf s0 ((p, o), vs, O, c, B, Y ++ X) s) (hc : c + Y.length ≤ 4000) (hl : (Y ++ X).length ≤ 80) (hY : ∀ y ∈ Y, y.1 = 1 ∧ r ≤ slv y.2.1) (hX : ∀ x X', X = x :: X' → x.1 = 1 → slv x.2.1 < r) (hQ : ∀ s', mX ch n hf s0 ((p, o), vs, oem (4000 * (1 - hf)) O c Y, c + Y.length, B, X) s' → Q none s') : EvM l E w (d + 1) MX10_reduce [.ref w.1, .int (nI r)] s Q :=
  EvM.of hst (by decide) (Nat.le_of_ble_eq_true rfl) (MP_reduce hst hr h hc hl hY hX hQ)
theorem MP_most0 (hst : l.stackTraces = false) {a : Nat} (h : mWd s) (ha : a < 30) (hQ : Q (some (.int (nI (pmst a)))) s) : EvM l E w d MX10_most0 [.ref w.1, .int (nI a)] s Q := by
  unfold pmst at hQ
  refine eX10_most0 hst (bn_eq a 5 (fun z => ⟨inB_n ha, ?_⟩) (fun z => ?_) rfl rfl)
  · rw [if_neg z] at hQ
    rw [nI_clamp (by omega), h.2 a ha]
    have e : (if a = 3 ∨ 19 ≤ a then (2 : Int32) else 1) = nI (if a = 3 ∨ 19 ≤ a then 2 else 1) := by split <;> rfl
    rw [e]; exact hQ
  · rw [if_pos z] at hQ; exact hQ
/-- a fault keeps what waits -/
theorem MP_signF (hst : l.stackTraces = false) {x1 : Int32} (h66 : ¬ s.1 66 ≤ 0) (hQ : Q none s) : EvM l E w (d + 1) MX10_sign [.ref w.1, .int x1] s Q := eX10_sign hst ⟨fun z => absurd z h66, fun _ => hQ⟩
theorem wk_pos (t : Tok) : ¬ nI (wk t) ≤ 0 := by unfold wk; split <;> decide
/-- the end of a literal -/
theorem ends2_5 (hst : l.stackTraces = false) (h : mX ch n hf s0 ((p, o), vs, O, c, B, x :: X) s) (hx : x.1 = 5) (hX : X.length < 80) (hc : c < 3900) (ho : 1 ≤ o)
    (hno : ¬ ((tk ch n p).1 = 3 ∧ (tk ch n p).2.2.1 = 93) → ∀ s', mFt ch n hf s0 (c + 1) (wk (tk ch n p)) (tk ch n p).2.1 s' → ¬ s'.1 66 ≤ 0 → Q (some (.int 1)) s')
    (hok : (tk ch n p).1 = 3 → (tk ch n p).2.2.1 = 93 → ∀ s', mX ch n hf s0 (((tk ch n p).2.2.2, o - 1), vs, oup O (4000 * (1 - hf) + c) (6, x.2.2.1, 0, 0, nI x.2.2.2.1), c + 1, B, X) s' → Q (some (.int 1)) s') : EvM l E w (d + 5) MX10_ends2 [.ref w.1] s Q := by
  obtain ⟨hp, g, e, e2⟩ := h.pop
  have g' : mXe (sI s 101 (nI X.length)) X.length x := g.cg (fun _ _ => rfl) rfl
  refine eX10_ends2 hst ?_
  intro y1 ey1
  rw [e2] at ey1
  subst ey1
  rw [e2, nI_clamp (by omega)]
  refine ⟨inB_n hX, fun y2 ey2 => ⟨inB_n hX, ?_⟩⟩
  rw [g.2.2.1] at ey2
  subst ey2
  rw [g.1, hx]
  refine ⟨fun z => absurd rfl z, fun _ => ?_⟩
  refine MP_sign hst (k := 93) hp (by decide) (fun _ => ho) (fun z hf => ⟨rfl, inB_n hX, ?_⟩) (fun z1 z2 s1 hs1 hw => ⟨rfl, inB_n hX, ?_⟩)
  · refine MP_orderF hst hf (by omega) (fun s' y hs' e66 _ => ⟨_, rfl, hno z s' hs' ?_⟩)
    rw [e66]; exact wk_pos _
  · have g1 := hw.e g'
    rw [g1.2.2.2.1]
    exact MP_order hst (od := (6, x.2.2.1, 0, 0, nI x.2.2.2.1)) hs1 (by omega) rfl rfl rfl rfl (Nat.ne_of_beq_eq_false rfl) (fun s' hs' _ => ⟨_, rfl, hok z1 z2 s' hs'⟩)
/-- the end of a call -/
theorem ends2_108 (hst : l.stackTraces = false) (hp : mX ch n hf s0 ((p, o), vs, O, c, B, X) s) (g : mXe s X.length x) (hx : 6 ≤ x.1) (hX : X.length < 80) (hc : c < 3900) (ho : 1 ≤ o) (hB : B.length < 800) (ha : ¬ x.1 = 6 → x.2.1 < 30) (h8 : x.1 = 8 → x.2.1 = 28 ∨ x.2.1 = 29)
    (hno : ¬ ((tk ch n p).1 = 3 ∧ (tk ch n p).2.2.1 = 41) → ∀ s', mFt ch n hf s0 (c + 1) (wk (tk ch n p)) (tk ch n p).2.1 s' → ¬ s'.1 66 ≤ 0 → Q (some (.int 1)) s')
    (hok6 : x.1 = 6 → (tk ch n p).1 = 3 → (tk ch n p).2.2.1 = 41 → ∀ s', mX ch n hf s0 (((tk ch n p).2.2.2, o - 1), vs, oup O (4000 * (1 - hf) + c) (9, 0, x.2.2.1, 0, nI x.2.2.2.1), c + 1, B ++ [(4000 * (1 - hf) + c, x.2.2.2.2.1, x.2.2.1, x.2.2.2.2.2)], X) s' → Q (some (.int 1)) s')
    (hok7 : x.1 = 7 → (tk ch n p).1 = 3 → (tk ch n p).2.2.1 = 41 → ∀ s', mX ch n hf s0 (((tk ch n p).2.2.2, o - 1), vs, oup O (4000 * (1 - hf) + c) (8, x.2.1, x.2.2.1, 0, nI x.2.2.2.1), c + 1, B, X) s' → Q (some (.int 1)) s')
    (hok8 : x.1 = 8 → (tk ch n p).1 = 3 → (tk ch n p).2.2.1 = 41 → ∀ s', mX ch n hf s0 (((tk ch n p).2.2.2, o - 1), vs, oup (oup O (4000 * (1 - hf) + c) (10, x.2.1, 0, 0, nI x.2.2.2.1)) (4000 * (1 - hf) + (c + 1)) (11, x.2.1, 0, 0, nI x.2.2.2.1), c + 1 + 1, B ++ [(4000 * (1 - hf) + (c + 1), x.2.2.2.2.1, if x.2.1 = 28 then 1 else 2, x.2.2.2.2.2)], X) s' → Q (some (.int 1)) s') : ExM l E w (d + 5) MX10_ends2 108 [some (.ref w.1), some (.int (nI X.length)), some (.int (nI x.2.2.1))] [] s Q := by
  have hx8 := g.2.2.2.2.2.1.1
  have i8 : inB (nI X.length) 80 := inB_n hX
  have hsx : ¬ x.1 = 6 → mSg x.2.1 = x.2.1 := fun z => by
    have := ha z
    unfold mSg; rw [if_neg (by omega), if_neg (by omega), if_neg (by omega), if_neg (by omega)]
  refine vX10_ends2_108 (MP_sign hst (k := 41) hp (by decide) (fun _ => ho) (fun z hf => ⟨rfl, ⟨fun q => absurd q (wk_pos _), fun _ => hno z _ (hf.up (by omega)) (wk_pos _)⟩⟩) (fun z1 z2 s1 hs1 hw => ⟨rfl, ⟨fun _ => ⟨i8, ?_⟩, fun q => absurd (by rw [hs1.2.2.1.1]; decide) q⟩⟩))
  have g1 := hw.e g
  rw [nI_clamp (by omega), g1.1]
  refine bn_eq x.1 7 (fun n7 => ⟨i8, bn_eq x.1 6 (fun n6 => ⟨i8, i8, ?_⟩) (fun e6 => ⟨i8, ?_⟩) rfl rfl⟩) (fun e7 => ⟨i8, i8, ?_⟩) rfl rfl
  · have e8 : x.1 = 8 := by omega
    have hs8 := hsx n6
    rw [g1.2.1 n6, hs8, g1.2.2.2.1]
    refine MP_order hst (od := (10, x.2.1, 0, 0, nI x.2.2.2.1)) hs1 (by omega) rfl rfl rfl rfl (Nat.ne_of_beq_eq_false rfl) (fun s2 hs2 hw2 => ⟨_, rfl, i8, i8, ?_⟩)
    have g2 := hw2.e g1
    rw [g2.2.1 n6, hs8, g2.2.2.2.1]
    refine MP_order hst (od := (11, x.2.1, 0, 0, nI x.2.2.2.1)) hs2 (by omega) rfl rfl rfl rfl (Nat.ne_of_beq_eq_false rfl) (fun s4 hs4 hw4 => ⟨_, rfl, i8, i8, ?_⟩)
    have g4 := hw4.e g2
    have g99 := g4.2.2.2.2.1 hx
    rw [g4.2.1 n6, hs8, g99.1, g99.2]
    have q := hok8 e8 z1 z2
    rcases h8 e8 with ea | ea
    · rw [ea] at q ⊢
      exact ⟨fun z => absurd rfl z, fun _ => ⟨i8, MP_called hst (m := 1) hs4 hB ⟨fun x hx => by have := hs1.bo.1 x hx; omega, by omega, by omega⟩ (fun s' hs' => ⟨rfl, q s' (by rw [ea] at hs'; exact hs')⟩)⟩⟩
    · rw [ea] at q ⊢
      exact ⟨fun _ => ⟨i8, MP_called hst (m := 2) hs4 hB ⟨fun x hx => by have := hs1.bo.1 x hx; omega, by omega, by omega⟩ (fun s' hs' => ⟨rfl, q s' (by rw [ea] at hs'; exact hs')⟩)⟩, fun z => absurd z (by decide)⟩
  · rw [g1.2.2.2.1]
    refine MP_order hst (od := (9, 0, x.2.2.1, 0, nI x.2.2.2.1)) hs1 (by omega) rfl rfl rfl rfl (Nat.ne_of_beq_eq_false rfl) (fun s2 hs2 hw2 => ⟨_, rfl, i8, i8, ?_⟩)
    have g2 := hw2.e g1
    have g99 := g2.2.2.2.2.1 hx
    rw [g99.1, g99.2]
    exact MP_called hst hs2 hB ⟨fun x hx => by have := hs1.bo.1 x hx; omega, by omega, by omega⟩ (fun s' hs' => ⟨rfl, hok6 e6 z1 z2 s' hs'⟩)
  · have n6 : ¬ x.1 = 6 := by omega
    rw [g1.2.1 n6, hsx n6, g1.2.2.2.1]
    exact MP_order hst (od := (8, x.2.1, x.2.2.1, 0, nI x.2.2.2.1)) hs1 (by omega) rfl rfl rfl rfl (Nat.ne_of_beq_eq_false rfl) (fun s2 hs2 hw2 => ⟨_, rfl, hok7 e7 z1 z2 s2 hs2⟩)
theorem ends2_c (hst : l.stackTraces = false) (h : mX ch n hf s0 ((p, o), vs, O, c, B, x :: X) s) (hx : 6 ≤ x.1) (hX : X.length < 80) (hc : c < 3900) (ho : 1 ≤ o) (hB : B.length < 800) (ha : ¬ x.1 = 6 → x.2.1 < 30) (h8 : x.1 = 8 → x.2.1 = 28 ∨ x.2.1 = 29)
    (hno : ¬ ((tk ch n p).1 = 3 ∧ (tk ch n p).2.2.1 = 41) → ∀ s', mFt ch n hf s0 (c + 1) (wk (tk ch n p)) (tk ch n p).2.1 s' → ¬ s'.1 66 ≤ 0 → Q (some (.int 1)) s')
    (h5 : x.1 = 7 → (tk ch n p).1 = 3 → (tk ch n p).2.2.1 = 41 → ¬ x.2.1 = 5 → ¬ x.2.2.1 = pmst x.2.1 → ∀ s', mFt ch n hf s0 (c + 1) 5 (tk ch n p).2.1 s' → ¬ s'.1 66 ≤ 0 → Q (some (.int 1)) s')
    (hok6 : x.1 = 6 → (tk ch n p).1 = 3 → (tk ch n p).2.2.1 = 41 → ∀ s', mX ch n hf s0 (((tk ch n p).2.2.2, o - 1), vs, oup O (4000 * (1 - hf) + c) (9, 0, x.2.2.1, 0, nI x.2.2.2.1), c + 1, B ++ [(4000 * (1 - hf) + c, x.2.2.2.2.1, x.2.2.1, x.2.2.2.2.2)], X) s' → Q (some (.int 1)) s')
    (hok7 : x.1 = 7 → (tk ch n p).1 = 3 → (tk ch n p).2.2.1 = 41 → (x.2.1 = 5 ∨ x.2.2.1 = pmst x.2.1) → ∀ s', mX ch n hf s0 (((tk ch n p).2.2.2, o - 1), vs, oup O (4000 * (1 - hf) + c) (8, x.2.1, x.2.2.1, 0, nI x.2.2.2.1), c + 1, B, X) s' → Q (some (.int 1)) s')
    (hok8 : x.1 = 8 → (tk ch n p).1 = 3 → (tk ch n p).2.2.1 = 41 → ∀ s', mX ch n hf s0 (((tk ch n p).2.2.2, o - 1), vs, oup (oup O (4000 * (1 - hf) + c) (10, x.2.1, 0, 0, nI x.2.2.2.1)) (4000 * (1 - hf) + (c + 1)) (11, x.2.1, 0, 0, nI x.2.2.2.1), c + 1 + 1, B ++ [(4000 * (1 - hf) + (c + 1), x.2.2.2.2.1, if x.2.1 = 28 then 1 else 2, x.2.2.2.2.2)], X) s' → Q (some (.int 1)) s') : EvM l E w (d + 5) MX10_ends2 [.ref w.1] s Q := by
  obtain ⟨hp, g, e, e2⟩ := h.pop
  have g' : mXe (sI s 101 (nI X.length)) X.length x := g.cg (fun _ _ => rfl) rfl
  have hx8 := g.2.2.2.2.2.1.1
  have i8 : inB (nI X.length) 80 := inB_n hX
  have ht := hp.1.tk hp.2.1.2
  have hn9 := g.2.2.2.2.2.1.2.2
  refine eX10_ends2 hst ?_
  intro y1 ey1
  rw [e2] at ey1
  subst ey1
  rw [e2, nI_clamp (by omega)]
  refine ⟨i8, fun y2 ey2 => ⟨i8, ?_⟩⟩
  rw [g.2.2.1] at ey2
  subst ey2
  rw [g.1]
  refine bn_eq x.1 5 (fun _ => ⟨i8, bn_eq x.1 7 (fun n7 => ?_) (fun e7 => ?_) rfl rfl⟩) (fun z => absurd z (by omega)) rfl rfl
  · exact ends2_108 hst hp g' hx hX hc ho hB ha h8 hno hok6 (fun z => absurd z n7) hok8
  · refine M_isSign hst (c := 41) hp.2.1.1 ht.1.1 ht.2.1 (by decide) ⟨_, rfl, pk_b (fun z => ?_) (fun z => ⟨i8, ?_⟩)⟩
    · exact ends2_108 hst hp g' hx hX hc ho hB ha h8 hno (fun z => absurd z (by omega)) (fun _ z1 z2 => absurd ⟨z1, z2⟩ z) (fun z => absurd z (by omega))
    · have ha' := ha (by omega)
      have hs : mSg x.2.1 = x.2.1 := by unfold mSg; rw [if_neg (by omega), if_neg (by omega), if_neg (by omega), if_neg (by omega)]
      rw [g'.2.1 (by omega), hs]
      refine pk_eq x.2.1 5 (fun z5 => ?_) (fun z5 => ⟨i8, ?_⟩) rfl rfl
      · exact ends2_108 hst hp g' hx hX hc ho hB ha h8 (fun q => absurd z q) (fun z => absurd z (by omega)) (fun a b c => hok7 a b c (Or.inl z5)) (fun z => absurd z (by omega))
      · have hm : pmst x.2.1 ≤ 6 := by unfold pmst; split <;> (try split) <;> omega
        refine MP_most0 hst hp.1.2.1 ha' ⟨_, rfl, pk_eq x.2.2.1 (pmst x.2.1) (fun zm => ?_) (fun zm => ?_) rfl rfl⟩
        · exact ends2_108 hst hp g' hx hX hc ho hB ha h8 (fun q => absurd z q) (fun z => absurd z (by omega)) (fun a b c => hok7 a b c (Or.inr zm)) (fun z => absurd z (by omega))
        · rw [hp.2.1.1.2.1]
          refine M_breaks hst hp.2.2.1.1 ⟨rfl, ?_⟩
          have hF := hp.flt (k := 5) (pl := (tk ch n p).2.1) (by decide) (by decide)
          refine vX10_ends2_108 (MP_signF hst (show ¬ (5 : Int32) ≤ 0 by decide) ⟨rfl, ⟨fun q => absurd q (show ¬ (5 : Int32) ≤ 0 by decide), fun _ => ?_⟩⟩)
          exact h5 e7 z.1 z.2 z5 zm _ (hF.up (by omega)) (show ¬ (5 : Int32) ≤ 0 by decide)
end XE2
