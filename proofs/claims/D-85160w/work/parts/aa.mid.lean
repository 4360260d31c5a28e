/-! ON THE WAY: between the begin of a piece and where it stands -/
section MD
variable (l : Launch) (E : EN) (w : CO) (wm : MO) (dm : Nat) (al : Int32) (ch : Nat → Nat) (n hf : Nat) (s0 : MS) (x0 nw na : Nat)
def pM (lo pc p o ca cap c : Nat) (vs : List Nat) (O : Nat → Od) (A : List (Nat × Nat × Nat)) (B : List Tok) (X : List XE) (s : CS) (f : RH) (q1 : Nat × Nat) (p1 o1 ca1 cap1 c1 : Nat) (vs1 : List Nat) (O1 : Nat → Od) (dC : List CE) (dA : List (Nat × Nat × Nat)) (X1 : List XE) (s1 : CS) (f1 : RH) : Prop :=
  (cfP s s1 ∧ cSc ch n p1 o1 s1) ∧ (gE [x0, nw, na, ca] f f1 ∧ rdR w f1 x0 nw na ca1 cap1 vs1 (A ++ dA) ∧ (ca1 = ca ∨ f.1 ≤ ca1)) ∧ XF l E wm dm al ch n hf s0 (0, 0) ((p, o), vs, O, c, B, X) q1 ((p1, o1), vs1, O1, c1, B ++ dC.map toB, X1) ∧ (∀ i, i < 4000 * (1 - hf) + c → O1 i = O i) ∧ cLk f1 lo pc p1 dC dA ∧ (p ≤ p1 ∧ c ≤ c1 ∧ cap ≤ cap1 ∧ vs.length ≤ vs1.length ∧ (f.1 ≤ lo ∧ lo ≤ f1.1) ∧ (p ≤ pc ∧ pc ≤ p1))
end MD
section MD2
variable {l : Launch} {E : EN} {w : CO} {wm : MO} {dm d : Nat} {al : Int32} {ch : Nat → Nat} {n hf : Nat} {s0 : MS} {x0 nw na K0 lo pc p o ca cap c gm p1 o1 ca1 cap1 c1 p2 o2 c2 : Nat} {vs vs1 : List Nat} {O O1 O2 : Nat → Od} {A A0 dA : List (Nat × Nat × Nat)} {B : List Tok} {dC : List CE} {X X1 X2 : List XE} {s s1 s2 : CS} {f f1 f2 : RH} {q1 q2 : Nat × Nat} {Q : KO → CS → RH → Prop}
theorem pM.init (h : pIn E w ch n x0 nw na K0 p o ca cap c vs A B X s f) : pM l E w wm dm al ch n hf s0 x0 nw na f.1 p p o ca cap c vs O A B X s f (0, 0) p o ca cap c vs O [] [] X s f :=
  ⟨⟨cfP.rf _, h.1⟩, ⟨gE.rf _ _, by rw [List.append_nil]; exact h.2.2.1, Or.inl rfl⟩, by rw [List.map_nil, List.append_nil]; exact XF.rf, fun _ _ => rfl, cLk.nil _ _ _ _, ⟨Nat.le_refl _, Nat.le_refl _, Nat.le_refl _, Nat.le_refl _, ⟨Nat.le_refl _, Nat.le_refl _⟩, ⟨Nat.le_refl _, Nat.le_refl _⟩⟩⟩
theorem pM.tok (h : pM l E w wm dm al ch n hf s0 x0 nw na lo pc p o ca cap c vs O A B X s f q1 p1 o1 ca1 cap1 c1 vs1 O1 dC dA X1 s1 f1) (hc : cfP s1 s2) (hs : cSc ch n p2 o2 s2) (hx : XF l E wm dm al ch n hf s0 q1 ((p1, o1), vs1, O1, c1, B ++ dC.map toB, X1) q2 ((p2, o2), vs1, O2, c2, B ++ dC.map toB, X2)) (hO : ∀ i, i < 4000 * (1 - hf) + c1 → O2 i = O1 i) (hp : p1 ≤ p2) (hc2 : c1 ≤ c2) : pM l E w wm dm al ch n hf s0 x0 nw na lo pc p o ca cap c vs O A B X s f q2 p2 o2 ca1 cap1 c2 vs1 O2 dC dA X2 s2 f1 := by
  obtain ⟨⟨h1, h2⟩, h3, h4, h5, h6, h7⟩ := h
  exact ⟨⟨h1.trans hc, hs⟩, h3, h4.trans hx, fun i hi => (hO i (by omega)).trans (h5 i hi), h6.wide (gE.rf [] f1) (fun a ha => absurd ha List.not_mem_nil) (Nat.le_refl _) (Nat.le_refl _) hp, ⟨by omega, by omega, h7.2.2.1, h7.2.2.2.1, h7.2.2.2.2.1, by omega⟩⟩
/-- a step of the model alone -/
theorem pM.xf (h : pM l E w wm dm al ch n hf s0 x0 nw na lo pc p o ca cap c vs O A B X s f q1 p1 o1 ca1 cap1 c1 vs1 O1 dC dA X1 s1 f1) (hx : XF l E wm dm al ch n hf s0 q1 ((p1, o1), vs1, O1, c1, B ++ dC.map toB, X1) q2 ((p1, o1), vs1, O2, c2, B ++ dC.map toB, X2)) (hO : ∀ i, i < 4000 * (1 - hf) + c1 → O2 i = O1 i) (hc2 : c1 ≤ c2) : pM l E w wm dm al ch n hf s0 x0 nw na lo pc p o ca cap c vs O A B X s f q2 p1 o1 ca1 cap1 c2 vs1 O2 dC dA X2 s1 f1 :=
  h.tok (cfP.rf _) h.1.2 hx hO (Nat.le_refl _) hc2
theorem pM.heap {D : List Nat} (h : pM l E w wm dm al ch n hf s0 x0 nw na lo pc p o ca cap c vs O A B X s f q1 p1 o1 ca1 cap1 c1 vs1 O1 dC dA X1 s1 f1) (hi : pIn E w ch n x0 nw na K0 p o ca cap c vs A0 B X s f) (hg : gE D f1 f2) (hD : ∀ a ∈ D, f1.1 ≤ a ∨ (f.1 ≤ a ∧ ¬ tg f1 a = some (.inr 8) ∧ (a < lo ∨ ¬ tg f1 a = some (.inl 19)))) : pM l E w wm dm al ch n hf s0 x0 nw na lo pc p o ca cap c vs O A B X s f q1 p1 o1 ca1 cap1 c1 vs1 O1 dC dA X1 s1 f2 := by
  obtain ⟨h1, ⟨h2, h3, h3'⟩, h4, h5, h6, h7⟩ := h
  have hl := h2.1
  have hr := hi.2.2.1
  have lx := hr.1.2.2.1
  have lw := hr.2.1.2.2.1
  have la := hr.2.2.1.2.2.1
  have lc := h3.2.2.2.2.2.1
  refine ⟨h1, ⟨h2.trans hg (fun a ha => Or.inr ?_), h3.keep hg ⟨fun z => ?_, fun z => ?_, fun z => ?_, fun z => ?_⟩, h3'⟩, h4, h5, h6.wide hg (fun a ha => ?_) (Nat.le_refl _) (Nat.le_refl _) (Nat.le_refl _), ⟨h7.1, h7.2.1, h7.2.2.1, h7.2.2.2.1, ⟨h7.2.2.2.2.1.1, Nat.le_trans h7.2.2.2.2.1.2 hg.1⟩, h7.2.2.2.2.2⟩⟩
  · rcases hD a ha with z | z
    · omega
    · exact z.1
  · rcases hD _ z with z | z
    · omega
    · omega
  · rcases hD _ z with z | z
    · omega
    · omega
  · rcases hD _ z with z | z
    · omega
    · omega
  · rcases hD _ z with z | z
    · omega
    · exact z.2.1 h3.2.2.2.2.1
  · rcases hD a ha with z | z
    · exact Or.inr (Or.inl z)
    · rcases z.2.2 with y | y
      · exact Or.inl y
      · exact Or.inr (Or.inr y)
/-- what a piece within finds -/
theorem pM.inn {u : Nat} (h : pM l E w wm dm al ch n hf s0 x0 nw na lo pc p o ca cap c vs O A B X s f q1 p1 o1 ca1 cap1 c1 vs1 O1 dC dA X1 s1 f1) (hi : pIn E w ch n x0 nw na K0 p o ca cap c vs A0 B X s f) (hA : 2 * A.length ≤ p + u) (hd : 2 * dC.length + p + u ≤ p1) (hX1 : c1 + 2 * X1.length ≤ 3 * p1 + 1) (hX2 : ∀ x ∈ X1, x.2.2.1 ≤ p1) (hb : f1.2.1 + 2 * cap ≤ f.2.1 + 2 * cap1 + 100 * (p1 - p)) : pIn E w ch n x0 nw na K0 p1 o1 ca1 cap1 c1 vs1 (A ++ dA) (B ++ dC.map toB) X1 s1 f1 := by
  obtain ⟨h1, ⟨h2, h3, h3'⟩, h4, h5, h6, h7⟩ := h
  obtain ⟨i1, i2, i3, i4, ⟨i5, i6, i7, i8⟩, i9, i10, i11⟩ := hi
  have hl := h2.1
  have hp1 := h1.2.2.1.2.1
  have hdl : dA.length = dC.length := by have := h6.2.1.length_eq; rw [List.length_map] at this; exact this
  refine ⟨h1.2, i2.ge h2 (fun a ha => ?_) i4, h3, by rw [h2.2.1]; omega, ⟨i5, hX1, ?_, ?_⟩, hX2, by omega, i11⟩
  · simp only [List.mem_cons, List.not_mem_nil, or_false] at ha
    rcases ha with rfl | rfl | rfl | rfl
    · exact i3.1.2.2.2
    · exact i3.2.1.2.2.2.1
    · exact i3.2.2.1.2.2.2.1
    · exact i3.2.2.2.2.2.2.1
  · rw [List.length_append, List.length_map]; omega
  · rw [List.length_append]; omega
/-- a piece within -/
theorem pM.sub {Rq : Nat × Nat → Tok → Prop} {v : Nat} (h : pM l E w wm dm al ch n hf s0 x0 nw na lo pc p o ca cap c vs O A B X s f (0, 0) p1 o1 ca1 cap1 c1 vs1 O1 dC dA X1 s1 f1) (k : pOk l E w wm dm al ch n hf s0 x0 nw na p1 o1 ca1 cap1 c1 vs1 O1 (A ++ dA) (B ++ dC.map toB) X1 s1 f1 Rq gm v s2 f2) :
    ∃ (p2 : Nat) (vs2 : List Nat) (O2 : Nat → Od) (c2 : Nat) (dC2 : List CE) (dA2 : List (Nat × Nat × Nat)) (ca2 cap2 : Nat) (q2 : Nat × Nat), pM l E w wm dm al ch n hf s0 x0 nw na lo pc p o ca cap c vs O A B X s f q2 p2 o1 ca2 cap2 c2 vs2 O2 (dC ++ dC2) (dA ++ dA2) X1 s2 f2 ∧ Rq q2 (tk ch n p2) ∧ (gE [x0, nw, na, ca1] f1 f2 ∧ nd f2 v ∧ (∀ i, i < 4000 * (1 - hf) + c1 → O2 i = O1 i) ∧ vs1.length ≤ vs2.length ∧ Rp f2 O2 dC2 f1.1 f2.1 vs2.length (4000 * (1 - hf) + c1) (4000 * (1 - hf) + c2) gm (hN p1 p2) (.ref v)) ∧ (p1 < p2 ∧ c1 ≤ c2 ∧ c2 + 3 * p1 ≤ c1 + 3 * p2 ∧ 2 * dC2.length + p1 ≤ p2 ∧ cap1 ≤ cap2 ∧ f2.2.1 + 2 * cap1 ≤ f1.2.1 + 2 * cap2 + 100 * (p2 - p1)) := by
  obtain ⟨p2, vs2, O2, c2, dC2, dA2, ca2, cap2, q2, ⟨k1, k2⟩, ⟨k3, k4, k5⟩, ⟨k6, k7⟩, ⟨k8, k9, k10⟩, k11, ⟨k12, k13, k14, k15, k16, k17, k18⟩⟩ := k
  obtain ⟨⟨h1, h2⟩, ⟨h3, h4, h5⟩, h6, h7, h8, ⟨h9, h10, h11, h12, ⟨h13, h13'⟩, ⟨h14, h14'⟩⟩⟩ := h
  have l1 := h3.1
  have l2 := k3.1
  refine ⟨p2, vs2, O2, c2, dC2, dA2, ca2, cap2, q2, ⟨⟨h1.trans k1, k2⟩, ⟨h3.trans k3 (fun a ha => ?_), by rw [← List.append_assoc]; exact k4, ?_⟩, ?_, fun i hi => (k8 i (by omega)).trans (h7 i hi), ?_, ⟨by omega, by omega, by omega, by omega, ⟨h13, by omega⟩, ⟨h14, by omega⟩⟩⟩, k6, ⟨k3, k9, k8, k18, k10⟩, ⟨k12, k13, k14, k15, k16, k17⟩⟩
  · simp only [List.mem_cons, List.not_mem_nil, or_false] at ha ⊢
    rcases h5 with e | e
    · subst e; exact Or.inl ha
    · rcases ha with rfl | rfl | rfl | rfl
      · exact Or.inl (Or.inl rfl)
      · exact Or.inl (Or.inr (Or.inl rfl))
      · exact Or.inl (Or.inr (Or.inr (Or.inl rfl)))
      · exact Or.inr e
  · rcases k5 with e | e
    · subst e; exact h5
    · exact Or.inr (by omega)
  · rw [List.map_append, ← List.append_assoc]; exact h6.trans k7
  · have hne : ∀ a ∈ [x0, nw, na, ca1], ¬ tg f1 a = some (.inl 19) := by
      intro a ha z
      simp only [List.mem_cons, List.not_mem_nil, or_false] at ha
      rcases ha with rfl | rfl | rfl | rfl
      · rw [h4.1.1.1] at z; cases z
      · rw [h4.2.1.2.1.1] at z; cases z
      · rw [h4.2.2.1.1] at z; cases z
      · rw [h4.2.2.2.2.1] at z; cases z
    exact h8.app k11 k3 (fun a ha => Or.inr (Or.inr (hne a ha))) h13' (Nat.le_refl _) h14' (by omega)
end MD2
