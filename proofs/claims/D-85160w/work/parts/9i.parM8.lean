/-! EXPRESSIONS OF THE MODEL: behind an E in something that is open -/
section XE3
variable {l : Launch} {E : EN} {w : MO} {d : Nat} {s s0 s' : MS} {Q : Option Value → MS → Prop} {ch : Nat → Nat} {n hf p p' o o' c : Nat} {vs : List Nat} {O : Nat → Od} {B : List Tok} {X : List XE} {x : XE} {al : Int32}
/-- one E more -/
def xup (x : XE) : XE := (x.1, x.2.1, x.2.2.1 + 1, x.2.2.2)
theorem ends1_34 (hst : l.stackTraces = false) (h : mX ch n hf s0 ((p, o), vs, O, c, B, x :: X) s) (hx : x.1 = 3 ∨ x.1 = 4) (hX : X.length < 80) (hn : x.2.2.1 < 9999) (hc : c < 3900) (ho : 1 ≤ o)
    (hno : ¬ ((tk ch n p).1 = 3 ∧ (tk ch n p).2.2.1 = if x.1 = 3 then 41 else 93) → ∀ s', mFt ch n hf s0 (c + 1) (wk (tk ch n p)) (tk ch n p).2.1 s' → ¬ s'.1 66 ≤ 0 → Q (some (.int 1)) s')
    (hok3 : x.1 = 3 → (tk ch n p).1 = 3 → (tk ch n p).2.2.1 = 41 → ∀ s', mX ch n hf s0 (((tk ch n p).2.2.2, o - 1), vs, O, c, B, X) s' → Q (some (.int 1)) s')
    (hok4 : x.1 = 4 → (tk ch n p).1 = 3 → (tk ch n p).2.2.1 = 93 → ∀ s', mX ch n hf s0 (((tk ch n p).2.2.2, o - 1), vs, oup O (4000 * (1 - hf) + c) (7, 0, 0, 0, nI x.2.2.2.1), c + 1, B, X) s' → Q (some (.int 1)) s') : EvM l E w (d + 6) MX10_ends1 [.ref w.1] s Q := by
  have hb := h.bump hn
  obtain ⟨-, -, -, e2⟩ := h.pop
  obtain ⟨hp, g, e, e3⟩ := hb.pop
  have ht := hp.1.tk hp.2.1.2
  have i8 : inB (nI X.length) 80 := inB_n hX
  have g0 : s.2.2.1 95 X.length = nI x.1 := h.ww.2.1.1
  refine eX10_ends1 hst ?_
  intro y1 ey1
  rw [e2] at ey1
  subst ey1
  rw [nI_clamp (by omega)]
  refine ⟨i8, i8, i8, fun y2 ey2 => ?_⟩
  rw [g0] at ey2
  subst ey2
  refine M_isSign hst (c := 44) hb.2.1.1 ht.1.1 ht.2.1 (by decide) ⟨_, rfl, ?_⟩
  rw [e3]
  have g' : mXe (sI (sA s 97 X.length (s.2.2.1 97 X.length + 1)) 101 (nI X.length)) X.length (xup x) := g.cg (fun _ _ => rfl) rfl
  rcases hx with hx | hx
  · rw [if_pos hx] at hno
    have e3' : (nI x.1 : Int32) = 3 := by rw [hx]; rfl
    rw [e3']
    refine ⟨fun _ => ⟨fun z => absurd rfl z, fun _ => ?_⟩, fun z => absurd rfl z⟩
    refine MP_sign hst (k := 41) hp (by decide) (fun _ => ho) (fun z hF => ⟨rfl, ⟨fun _ => hno z _ (hF.up (by omega)) (wk_pos _), fun q => absurd q (by decide)⟩⟩) (fun z1 z2 s1 hs1 _ => ⟨rfl, ⟨fun _ => hok3 hx z1 z2 s1 hs1, fun q => absurd q (by decide)⟩⟩)
  · rw [if_neg (by omega)] at hno
    have e4' : (nI x.1 : Int32) = 4 := by rw [hx]; rfl
    rw [e4']
    refine ⟨fun z => absurd z (by decide), fun _ => ⟨fun z => absurd rfl z, fun _ => ⟨fun _ => ?_, fun z => absurd z (by decide)⟩⟩⟩
    refine MP_sign hst (k := 93) hp (by decide) (fun _ => ho) (fun z hF => ⟨rfl, ⟨fun q => absurd rfl q, fun _ => ⟨i8, ?_⟩⟩⟩) (fun z1 z2 s1 hs1 hw => ⟨rfl, ⟨fun q => absurd rfl q, fun _ => ⟨i8, ?_⟩⟩⟩)
    · refine MP_orderF hst hF (by omega) (fun s' y hs' e66 _ => ⟨_, rfl, hno z s' hs' ?_⟩)
      rw [e66]; exact wk_pos _
    · have g1 := hw.e g'
      rw [g1.2.2.2.1]
      exact MP_order hst (od := (7, 0, 0, 0, nI x.2.2.2.1)) hs1 (by omega) rfl rfl rfl rfl (Nat.ne_of_beq_eq_false rfl) (fun s' hs' _ => ⟨_, rfl, hok4 hx z1 z2 s' hs'⟩)
theorem ends1_c (hst : l.stackTraces = false) (h : mX ch n hf s0 ((p, o), vs, O, c, B, x :: X) s) (hx : 5 ≤ x.1) (hX : X.length < 80) (hn : x.2.2.1 < 9999) (ha : ¬ x.1 = 6 → x.2.1 < 30)
    (hcm : x.1 ≤ 7 → (tk ch n p).1 = 3 → (tk ch n p).2.2.1 = 44 → ¬ (x.1 = 7 ∧ pmst x.2.1 ≤ x.2.2.1 + 1) → ∀ s', mX ch n hf s0 (((tk ch n p).2.2.2, o), vs, O, c, B, xup x :: X) s' → Q (some (.int 0)) s')
    (h5 : x.1 = 7 → (tk ch n p).1 = 3 → (tk ch n p).2.2.1 = 44 → pmst x.2.1 ≤ x.2.2.1 + 1 → ∀ s', mFt ch n hf s0 (c + 1) 5 (tk ch n p).2.1 s' → ¬ s'.1 66 ≤ 0 → Q (some (.int 0)) s')
    (hf1 : x.1 = 8 → x.2.1 = 29 → x.2.2.1 = 0 → (tk ch n p).1 = 3 → (tk ch n p).2.2.1 = 44 → ∀ s', mX ch n hf s0 (((tk ch n p).2.2.2, o), vs, O, c, B, xup x :: X) s' → Q (some (.int 0)) s')
    (hf2 : x.1 = 8 → x.2.1 = 29 → x.2.2.1 = 0 → ¬ ((tk ch n p).1 = 3 ∧ (tk ch n p).2.2.1 = 44) → ∀ s', mFt ch n hf s0 (c + 1) (wk (tk ch n p)) (tk ch n p).2.1 s' → ¬ s'.1 66 ≤ 0 → Q (some (.int 0)) s')
    (he2 : (x.1 ≤ 7 → ¬ ((tk ch n p).1 = 3 ∧ (tk ch n p).2.2.1 = 44)) → (x.1 = 8 → ¬ (x.2.1 = 29 ∧ x.2.2.1 = 0)) → ∀ s1, mX ch n hf s0 ((p, o), vs, O, c, B, xup x :: X) s1 → EvM l E w (d + 5) MX10_ends2 [.ref w.1] s1 (fun r s' => r = some (.int 1) ∧ Q (some (.int 1)) s')) : EvM l E w (d + 6) MX10_ends1 [.ref w.1] s Q := by
  have hb : mX ch n hf s0 ((p, o), vs, O, c, B, xup x :: X) (sA s 97 X.length (s.2.2.1 97 X.length + 1)) := h.bump hn
  obtain ⟨-, -, -, e2⟩ := h.pop
  obtain ⟨hp, g, e, e3⟩ := hb.pop
  have ht := hp.1.tk hp.2.1.2
  have i8 : inB (nI X.length) 80 := inB_n hX
  have g0 : s.2.2.1 95 X.length = nI x.1 := h.ww.2.1.1
  have hx8 : x.1 ≤ 8 := g.2.2.2.2.2.1.1
  have hbe := ht.1.2.2.2.2
  have h66 := hb.2.2.1.1
  have hsx : ¬ x.1 = 6 → (sA s 97 X.length (s.2.2.1 97 X.length + 1)).2.2.1 96 X.length = nI x.2.1 := fun z => by
    have := ha z
    rw [g.2.1 z]
    show nI (mSg x.2.1) = _
    unfold mSg; rw [if_neg (by omega), if_neg (by omega), if_neg (by omega), if_neg (by omega)]
  have h97 : (sA s 97 X.length (s.2.2.1 97 X.length + 1)).2.2.1 97 X.length = nI (x.2.2.1 + 1) := g.2.2.1
  have nv1 : narrow .boolean (.int (1 : Int32)) = .int 1 := rfl
  have toE : ∀ s1, mX ch n hf s0 ((p, o), vs, O, c, B, xup x :: X) s1 → (x.1 ≤ 7 → ¬ ((tk ch n p).1 = 3 ∧ (tk ch n p).2.2.1 = 44)) → (x.1 = 8 → ¬ (x.2.1 = 29 ∧ x.2.2.1 = 0)) → EvM l E w (d + 5) MX10_ends2 [.ref w.1] s1 (fun r s' => ∃ v2 : Int32, r = some (.int v2) ∧ (narrow .boolean (.int v2) = .int v2 ∧ Q (some (.int v2)) s')) := fun s1 hs1 z1 z2 => (he2 z1 z2 s1 hs1).mono (fun r s' q => ⟨1, q.1, nv1, q.2⟩)
  refine eX10_ends1 hst ?_
  intro y1 ey1
  rw [e2] at ey1
  subst ey1
  rw [nI_clamp (by omega)]
  refine ⟨i8, i8, i8, fun y2 ey2 => ?_⟩
  rw [g0] at ey2
  subst ey2
  refine M_isSign hst (c := 44) hb.2.1.1 ht.1.1 ht.2.1 (by decide) ⟨_, rfl, ?_⟩
  refine pk_eq x.1 3 (fun z => absurd z (by omega)) (fun _ => bn_eq x.1 4 (fun _ => bn_eq x.1 8 (fun n8 => bn_eq x.1 7 (fun n7 => ?_) (fun e7 => pk_b (fun z => ?_) (fun z => ⟨i8, i8, ?_⟩)) rfl rfl) (fun e8 => ⟨i8, ?_⟩) rfl rfl) (fun z => absurd z (by omega)) rfl rfl) rfl rfl
  · refine vX10_ends1_162 (pk_b (fun z => toE _ hb (fun _ => z) (fun q => absurd q n8)) (fun z => pk_eq x.1 8 (fun q => absurd q n8) (fun _ => ⟨fun q => absurd h66 q, fun _ => ?_⟩) rfl rfl))
    exact MP_take hst hb.1.1 hb.2.1.1.2.2.1 hbe (fun s' a b => ⟨rfl, hcm (by omega) z.1 z.2 (fun q => n7 q.1) s' (hb.tok a b hbe)⟩)
  · refine vX10_ends1_162 (pk_b (fun z => toE _ hb (fun _ => z) (fun q => absurd q n8)) (fun y => absurd y z))
  · have n6 : ¬ x.1 = 6 := by omega
    have hm : pmst x.2.1 ≤ 6 := by unfold pmst; split <;> (try split) <;> omega
    rw [hsx n6, h97]
    refine MP_most0 hst hb.1.2.1 (ha n6) ⟨_, rfl, pk_lt (x.2.2.1 + 1) (pmst x.2.1) (fun q => ?_) (fun q => ?_) rfl rfl⟩
    · refine vX10_ends1_162 (pk_b (fun y => absurd z y) (fun _ => pk_eq x.1 8 (fun q => absurd q n8) (fun _ => ⟨fun q => absurd h66 q, fun _ => ?_⟩) rfl rfl))
      exact MP_take hst hb.1.1 hb.2.1.1.2.2.1 hbe (fun s' a b => ⟨rfl, hcm (by omega) z.1 z.2 (fun y => by omega) s' (hb.tok a b hbe)⟩)
    · rw [hb.2.1.1.2.1]
      refine M_breaks hst h66 ⟨rfl, ?_⟩
      refine vX10_ends1_162 (pk_b (fun y => absurd z y) (fun _ => pk_eq x.1 8 (fun q => absurd q n8) (fun _ => ⟨fun _ => ?_, fun q => absurd q (show ¬ (5 : Int32) = 0 by decide)⟩) rfl rfl))
      exact h5 e7 z.1 z.2 q _ ((hb.flt (k := 5) (by decide) (by decide)).up (by omega)) (show ¬ (5 : Int32) ≤ 0 by decide)
  · have n6 : ¬ x.1 = 6 := by omega
    rw [hsx n6, h97]
    have ha' := ha n6
    have to2 : (x.1 = 8 → ¬ (x.2.1 = 29 ∧ x.2.2.1 = 0)) → ExM l E w (d + 6) MX10_ends1 162 [some (.ref w.1), none, some (.int (nI x.1)), some (.int (bI (decide ((tk ch n p).1 = 3 ∧ (tk ch n p).2.2.1 = 44))))] [] (sA s 97 X.length (s.2.2.1 97 X.length + 1)) Q := fun hz =>
      vX10_ends1_162 (pk_b (fun z => toE _ hb (fun q => absurd q (by omega)) hz) (fun z => pk_eq x.1 8 (fun _ => toE _ hb (fun q => absurd q (by omega)) hz) (fun q => absurd e8 q) rfl rfl))
    refine bn_eq x.2.1 29 (fun z => ?_) (fun z => ⟨i8, bn_eq (x.2.2.1 + 1) 1 (fun y => ?_) (fun y => ?_) rfl rfl⟩) rfl rfl
    · exact bn_eq x.1 7 (fun _ => to2 (fun _ q => z q.1)) (fun q => absurd q (by omega)) rfl rfl
    · exact bn_eq x.1 7 (fun _ => to2 (fun _ q => y (by omega))) (fun q => absurd q (by omega)) rfl rfl
    · exact MP_sign hst (k := 44) hb (by decide) (fun q => absurd q (by decide)) (fun q hF => ⟨rfl, hf2 e8 z (by omega) q _ (hF.up (by omega)) (wk_pos _)⟩) (fun z1 z2 s1 hs1 _ => ⟨rfl, hf1 e8 z (by omega) z1 z2 s1 hs1⟩)
end XE3
