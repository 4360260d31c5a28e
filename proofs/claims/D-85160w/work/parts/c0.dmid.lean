/-! DEEDS: what was read, what will be; on the way within a deed -/
/-- what will be, of any kind -/
def Rg (f : RH) (O : Nat → Od) (C : List CE) (lo hi nv a b : Nat) (T : RH → Pg → (Nat → Nat) → Nat → Nat → Prop) : Prop :=
  ∀ (f' : RH) (P : Pg) (F : Nat → Nat) (M nv' : Nat), hi ≤ f'.2.2.2 → Ag lo hi f f' → (∀ i, a ≤ i → i < b → oAg (O i) (P.1 i)) → (∀ e ∈ C, RS f' P F M e) → nv ≤ nv' → T f' P F M nv'
theorem Rg.keep {f f' : RH} {O O' : Nat → Od} {C C' : List CE} {lo hi nv nv' a b : Nat} {T : RH → Pg → (Nat → Nat) → Nat → Nat → Prop} (q : Rg f O C lo hi nv a b T) (h1 : ∀ x, lo ≤ x → x < hi → ¬ tg f x = some (.inr 8) → f'.2.2.1 x = f.2.2.1 x) (h2 : ∀ i, a ≤ i → i < b → O' i = O i) (h3 : ∀ e ∈ C, e ∈ C') (h4 : nv ≤ nv') : Rg f' O' C' lo hi nv' a b T := by
  intro f2 P F M nv2 k1 k2 k3 k4 k5
  refine q f2 P F M nv2 k1 (fun x hx1 hx2 hx3 => ?_) (fun i hi1 hi2 => by rw [← h2 i hi1 hi2]; exact k3 i hi1 hi2) (fun e he => k4 e (h3 e he)) (Nat.le_trans h4 k5)
  have e := cellE (h1 x hx1 hx2 hx3)
  have := k2 x hx1 hx2 (by rw [e.1]; exact hx3)
  rw [e.1, e.2.1, e.2.2] at this
  exact this
theorem Rg.wide {f : RH} {O : Nat → Od} {C : List CE} {lo hi lo' hi' nv a b a' b' : Nat} {T T' : RH → Pg → (Nat → Nat) → Nat → Nat → Prop} (q : Rg f O C lo hi nv a b T) (h1 : lo' ≤ lo) (h2 : hi ≤ hi') (h3 : a' ≤ a) (h4 : b ≤ b') (hT : ∀ f P F M nv, T f P F M nv → T' f P F M nv) : Rg f O C lo' hi' nv a' b' T' := fun f' P F M nv' k1 k2 k3 k4 k5 => hT _ _ _ _ _ (q f' P F M nv' (by omega) (fun x x1 x2 => k2 x (by omega) (by omega)) (fun i i1 i2 => k3 i (by omega) (by omega)) k4 k5)
/-- kept while its parent is in the making -/
def Kg (f : RH) (O : Nat → Od) (C : List CE) (L : Nat) (D : List Nat) (nv a b : Nat) (T : RH → Pg → (Nat → Nat) → Nat → Nat → Prop) : Prop := ∃ lo hi, L ≤ lo ∧ hi ≤ f.1 ∧ (∀ x ∈ D, x < lo ∨ hi ≤ x) ∧ Rg f O C lo hi nv a b T
theorem Kg.keep {f f' : RH} {O O' : Nat → Od} {C C' : List CE} {L nv nv' a b : Nat} {D D' D2 : List Nat} {T : RH → Pg → (Nat → Nat) → Nat → Nat → Prop} (k : Kg f O C L D nv a b T) (hg : gE D' f f') (hD : ∀ x ∈ D', x < L ∨ x ∈ D ∨ f.1 ≤ x ∨ tg f x = some (.inr 8)) (hD2 : ∀ x ∈ D2, x ∈ D ∨ f.1 ≤ x) (hO : ∀ i, a ≤ i → i < b → O' i = O i) (hC : ∀ e ∈ C, e ∈ C') (hv : nv ≤ nv') : Kg f' O' C' L D2 nv' a b T := by
  obtain ⟨lo, hi, k1, k2, k3, k4⟩ := k
  have l := hg.1
  refine ⟨lo, hi, k1, by omega, fun x hx => ?_, k4.keep (fun x x1 x2 x3 => hg.ce (by omega) (fun z => ?_)) hO hC hv⟩
  · rcases hD2 x hx with z | z
    · exact k3 x z
    · exact Or.inr (by omega)
  · rcases hD x z with y | y | y | y
    · omega
    · have := k3 x y; omega
    · omega
    · exact x3 y
theorem Kg.rep {f f' : RH} {O : Nat → Od} {C : List CE} {L nv nv' a b M H : Nat} {D : List Nat} {P : Pg} {F : Nat → Nat} {T : RH → Pg → (Nat → Nat) → Nat → Nat → Prop} (k : Kg f O C L D nv a b T) (hH : f.1 ≤ H) (hb : H ≤ f'.2.2.2) (hA : Ag L H f f') (hO : ∀ i, a ≤ i → i < b → oAg (O i) (P.1 i)) (hC : ∀ e ∈ C, RS f' P F M e) (hv : nv ≤ nv') : T f' P F M nv' := by
  obtain ⟨lo, hi, k1, k2, k3, k4⟩ := k
  exact k4 f' P F M nv' (by omega) (fun x x1 x2 => hA x (by omega) (by omega)) hO hC hv
section DM
variable (w : CO) (ch : Nat → Nat) (n hf x0 nw na : Nat)
/-- on the way within a deed; u: bytes that no piece within has, z: cells spent on the deed's own, r: the deed's own orders -/
def dM (p o ca cap c : Nat) (vs : List Nat) (O : Nat → Od) (A : List (Nat × Nat × Nat)) (s : CS) (f : RH) (u z r : Nat) (p1 o1 ca1 cap1 c1 : Nat) (vs1 : List Nat) (O1 : Nat → Od) (dC : List CE) (dA : List (Nat × Nat × Nat)) (s1 : CS) (f1 : RH) : Prop :=
  (cfP s s1 ∧ cSc ch n p1 o1 s1) ∧ (gE [x0, nw, na, ca] f f1 ∧ rdR w f1 x0 nw na ca1 cap1 vs1 (A ++ dA) ∧ (ca1 = ca ∨ f.1 ≤ ca1)) ∧ (∀ i, i < 4000 * (1 - hf) + c → O1 i = O i) ∧ cLk f1 f.1 p p1 dC dA ∧ (p + u ≤ p1 ∧ c ≤ c1 ∧ cap ≤ cap1 ∧ vs.length ≤ vs1.length) ∧ (f1.2.1 + 2 * cap + 100 * u ≤ f.2.1 + 2 * cap1 + 100 * (p1 - p) + z ∧ c1 + 3 * p + 3 * u ≤ c + 3 * p1 + r ∧ 2 * dC.length + p + u ≤ p1)
/-- what a deed finds -/
def tIn (E : EN) (K0 : Nat) (p o ca cap c : Nat) (vs : List Nat) (A : List (Nat × Nat × Nat)) (B : List Tok) (s : CS) (f : RH) : Prop := pIn E w ch n x0 nw na K0 p o ca cap c vs A B [] s f ∧ c + 2 ≤ 3 * p ∧ f.2.1 + 100 * (n - p) + 20050 ≤ 2 * cap + K0
end DM
section DM2
variable {l : Launch} {E : EN} {w : CO} {wm : MO} {dm d : Nat} {al : Int32} {ch : Nat → Nat} {n hf : Nat} {s0 : MS} {x0 nw na K0 p o ca cap c gm u z r u' r' p1 o1 ca1 cap1 c1 p2 o2 c2 : Nat} {vs vs1 : List Nat} {O O1 O2 : Nat → Od} {A dA : List (Nat × Nat × Nat)} {B : List Tok} {dC : List CE} {s s1 s2 : CS} {f f1 f2 : RH} {Q : KO → CS → RH → Prop}
theorem dM.init (h : tIn w ch n x0 nw na E K0 p o ca cap c vs A B s f) : dM w ch n hf x0 nw na p o ca cap c vs O A s f 0 0 0 p o ca cap c vs O [] [] s f :=
  ⟨⟨cfP.rf _, h.1.1⟩, ⟨gE.rf _ _, by rw [List.append_nil]; exact h.1.2.2.1, Or.inl rfl⟩, fun _ _ => rfl, cLk.nil _ _ _ _, ⟨Nat.le_refl _, Nat.le_refl _, Nat.le_refl _, Nat.le_refl _⟩, ⟨by omega, by omega, by rw [List.length_nil]; omega⟩⟩
theorem dM.tok (h : dM w ch n hf x0 nw na p o ca cap c vs O A s f u z r p1 o1 ca1 cap1 c1 vs1 O1 dC dA s1 f1) (hc : cfP s1 s2) (hs : cSc ch n p2 o2 s2) (hp : p1 + u' ≤ p2) : dM w ch n hf x0 nw na p o ca cap c vs O A s f (u + u') z r p2 o2 ca1 cap1 c1 vs1 O1 dC dA s2 f1 := by
  obtain ⟨⟨h1, h2⟩, h3, h4, h5, ⟨h6, h7, h8, h9⟩, h10, h11, h12⟩ := h
  exact ⟨⟨h1.trans hc, hs⟩, h3, h4, h5.wide (gE.rf [] f1) (fun a ha => absurd ha List.not_mem_nil) (Nat.le_refl _) (Nat.le_refl _) (by omega), ⟨by omega, h7, h8, h9⟩, ⟨by omega, by omega, by omega⟩⟩
/-- orders of the model's -/
theorem dM.ord (h : dM w ch n hf x0 nw na p o ca cap c vs O A s f u z r p1 o1 ca1 cap1 c1 vs1 O1 dC dA s1 f1) (hO : ∀ i, i < 4000 * (1 - hf) + c → O2 i = O1 i) (hc : c1 ≤ c2) (hr : c2 + r ≤ c1 + r') : dM w ch n hf x0 nw na p o ca cap c vs O A s f u z r' p1 o1 ca1 cap1 c2 vs1 O2 dC dA s1 f1 := by
  obtain ⟨h1, h3, h4, h5, ⟨h6, h7, h8, h9⟩, h10, h11, h12⟩ := h
  exact ⟨h1, h3, fun i hi => (hO i hi).trans (h4 i hi), h5, ⟨h6, by omega, h8, h9⟩, ⟨h10, by omega, h12⟩⟩
theorem dM.heap {D : List Nat} {z' : Nat} (h : dM w ch n hf x0 nw na p o ca cap c vs O A s f u z r p1 o1 ca1 cap1 c1 vs1 O1 dC dA s1 f1) (hi : tIn w ch n x0 nw na E K0 p o ca cap c vs A B s f) (hg : gE D f1 f2) (hD : ∀ a ∈ D, f1.1 ≤ a ∨ (f.1 ≤ a ∧ ¬ tg f1 a = some (.inr 8) ∧ ¬ tg f1 a = some (.inl 19))) (hz : f2.2.1 + z ≤ f1.2.1 + z') : dM w ch n hf x0 nw na p o ca cap c vs O A s f u z' r p1 o1 ca1 cap1 c1 vs1 O1 dC dA s1 f2 := by
  obtain ⟨h1, ⟨h2, h3, h3'⟩, h4, h6, h7, h10, h11, h12⟩ := h
  have hl := h2.1
  have hr := hi.1.2.2.1
  have lx := hr.1.2.2.1
  have lw := hr.2.1.2.2.1
  have la := hr.2.2.1.2.2.1
  have lc := h3.2.2.2.2.2.1
  refine ⟨h1, ⟨h2.trans hg (fun a ha => Or.inr ?_), h3.keep hg ⟨fun z => ?_, fun z => ?_, fun z => ?_, fun z => ?_⟩, h3'⟩, h4, h6.wide hg (fun a ha => ?_) (Nat.le_refl _) (Nat.le_refl _) (Nat.le_refl _), h7, by omega, h11, h12⟩
  · rcases hD a ha with z | z
    · omega
    · exact z.1
  · rcases hD _ z with z | z <;> omega
  · rcases hD _ z with z | z <;> omega
  · rcases hD _ z with z | z <;> omega
  · rcases hD _ z with z | z
    · omega
    · exact z.2.1 h3.2.2.2.2.1
  · rcases hD a ha with z | z
    · exact Or.inr (Or.inl z)
    · exact Or.inr (Or.inr z.2.2)
theorem dM.kc (h : dM w ch n hf x0 nw na p o ca cap c vs O A s f u z r p1 o1 ca1 cap1 c1 vs1 O1 dC dA s1 f1) (hi : tIn w ch n x0 nw na E K0 p o ca cap c vs A B s f) : cKc E f1 ∧ f1.2.2.2 ≤ f1.1 := by
  have h2 := h.2.1.1
  have i3 := hi.1.2.2.1
  have hl := h2.1
  have hb := hi.1.2.2.2.1
  refine ⟨hi.1.2.1.ge h2 (fun a ha => ?_) hb, by rw [h2.2.1]; omega⟩
  simp only [List.mem_cons, List.not_mem_nil, or_false] at ha
  rcases ha with rfl | rfl | rfl | rfl
  · exact i3.1.2.2.2
  · exact i3.2.1.2.2.2.1
  · exact i3.2.2.1.2.2.2.1
  · exact i3.2.2.2.2.2.2.1
/-- what a piece within finds -/
theorem dM.inn (h : dM w ch n hf x0 nw na p o ca cap c vs O A s f u z r p1 o1 ca1 cap1 c1 vs1 O1 dC dA s1 f1) (hi : tIn w ch n x0 nw na E K0 p o ca cap c vs A B s f) (hz : z ≤ 50 + 100 * u) (hr : r ≤ 3 * u + 3) : pIn E w ch n x0 nw na K0 p1 o1 ca1 cap1 c1 vs1 (A ++ dA) (B ++ dC.map toB) [] s1 f1 := by
  have hk := h.kc hi
  obtain ⟨h1, ⟨h2, h3, h3'⟩, h4, h6, ⟨h7, h7', h7'', -⟩, h10, h11, h12⟩ := h
  obtain ⟨⟨i1, i2, i3, i4, ⟨i5, i6, i7, i8⟩, i9, i10, i11⟩, j1, j2⟩ := hi
  have hp1 := h1.2.2.1.2.1
  have hdl : dA.length = dC.length := by have := h6.2.1.length_eq; rw [List.length_map] at this; exact this
  refine ⟨h1.2, hk.1, h3, hk.2, ⟨i5, by rw [List.length_nil]; omega, ?_, ?_⟩, fun x hx => absurd hx List.not_mem_nil, by omega, i11⟩
  · rw [List.length_append, List.length_map]; omega
  · rw [List.length_append]; omega
/-- what a deed (a block) within finds -/
theorem dM.tin (h : dM w ch n hf x0 nw na p o ca cap c vs O A s f u z r p1 o1 ca1 cap1 c1 vs1 O1 dC dA s1 f1) (hi : tIn w ch n x0 nw na E K0 p o ca cap c vs A B s f) (hz : z ≤ 100 * u) (hr : r ≤ 3 * u) : tIn w ch n x0 nw na E K0 p1 o1 ca1 cap1 c1 vs1 (A ++ dA) (B ++ dC.map toB) s1 f1 := by
  refine ⟨h.inn hi (by omega) (by omega), ?_, ?_⟩
  · have := hi.2.1
    have := h.2.2.2.2.2.2.1
    omega
  · have := hi.2.2
    have := h.2.2.2.2.2.1
    have := h.1.2.2.1.2.1
    have := h.2.2.2.2.1.1
    omega
/-- an expression within -/
theorem dM.sub {Rq : Nat × Nat → Tok → Prop} {v : Nat} {D : List Nat} (h : dM w ch n hf x0 nw na p o ca cap c vs O A s f u z r p1 o1 ca1 cap1 c1 vs1 O1 dC dA s1 f1) (hD : ∀ x ∈ D, x < f1.1) (k : pOk l E w wm dm al ch n hf s0 x0 nw na p1 o1 ca1 cap1 c1 vs1 O1 (A ++ dA) (B ++ dC.map toB) [] s1 f1 Rq gm v s2 f2) :
    ∃ (p2 : Nat) (vs2 : List Nat) (O2 : Nat → Od) (c2 : Nat) (dC2 : List CE) (dA2 : List (Nat × Nat × Nat)) (ca2 cap2 : Nat) (q2 : Nat × Nat), dM w ch n hf x0 nw na p o ca cap c vs O A s f u z r p2 o1 ca2 cap2 c2 vs2 O2 (dC ++ dC2) (dA ++ dA2) s2 f2 ∧ (Rq q2 (tk ch n p2) ∧ XF l E wm dm al ch n hf s0 (0, 0) ((p1, o1), vs1, O1, c1, B ++ dC.map toB, []) q2 ((p2, o1), vs2, O2, c2, B ++ (dC ++ dC2).map toB, [])) ∧ (gE [x0, nw, na, ca1] f1 f2 ∧ (∀ i, i < 4000 * (1 - hf) + c1 → O2 i = O1 i) ∧ vs1.length ≤ vs2.length ∧ Kg f2 O2 (dC ++ dC2) f.1 D vs2.length (4000 * (1 - hf) + c1) (4000 * (1 - hf) + c2) (fun f' P F M nv' => RepN f' P F M nv' gm (.ref v) (4000 * (1 - hf) + c1) (4000 * (1 - hf) + c2) (hN p1 p2))) ∧ (p1 < p2 ∧ c1 ≤ c2 ∧ tg f1 ca1 = some (.inr 8)) := by
  obtain ⟨p2, vs2, O2, c2, dC2, dA2, ca2, cap2, q2, ⟨k1, k2⟩, ⟨k3, k4, k5⟩, ⟨k6, k7⟩, ⟨k8, k9, k10⟩, k11, ⟨k12, k13, k14, k15, k16, k17, k18⟩⟩ := k
  obtain ⟨⟨h1, h2⟩, ⟨h3, h4, h5⟩, h7, h8, ⟨h9, h10, h11, h12⟩, h13, h14, h15⟩ := h
  have l1 := h3.1
  have l2 := k3.1
  refine ⟨p2, vs2, O2, c2, dC2, dA2, ca2, cap2, q2, ⟨⟨h1.trans k1, k2⟩, ⟨h3.trans k3 (fun a ha => ?_), by rw [← List.append_assoc]; exact k4, ?_⟩, fun i hi => (k8 i (by omega)).trans (h7 i hi), ?_, ⟨by omega, by omega, by omega, by omega⟩, ⟨by omega, by omega, by rw [List.length_append]; omega⟩⟩, ⟨k6, by rw [List.map_append, ← List.append_assoc]; exact k7⟩, ⟨k3, k8, k18, ⟨f1.1, f2.1, l1, Nat.le_refl _, fun x hx => Or.inl (hD x hx), ?_⟩⟩, ⟨k12, k13, h4.2.2.2.2.1⟩⟩
  · simp only [List.mem_cons, List.not_mem_nil, or_false] at ha ⊢
    rcases h5 with e | e
    · subst e; exact Or.inl ha
    · rcases ha with rfl | rfl | rfl | rfl
      · exact Or.inl (Or.inl rfl)
      · exact Or.inl (Or.inr (Or.inl rfl))
      · exact Or.inl (Or.inr (Or.inr (Or.inl rfl)))
      · exact Or.inr e
  · rcases k5 with e | e
    · subst e; exact h5
    · exact Or.inr (by omega)
  · have hne : ∀ a ∈ [x0, nw, na, ca1], ¬ tg f1 a = some (.inl 19) := by
      intro a ha z
      simp only [List.mem_cons, List.not_mem_nil, or_false] at ha
      rcases ha with rfl | rfl | rfl | rfl
      · rw [h4.1.1.1] at z; cases z
      · rw [h4.2.1.2.1.1] at z; cases z
      · rw [h4.2.2.1.1] at z; cases z
      · rw [h4.2.2.2.2.1] at z; cases z
    exact h8.app k11 k3 (fun a ha => Or.inr (Or.inr (hne a ha))) l1 (Nat.le_refl _) (by omega) (by omega)
  · exact fun f' P F M nv' q1 q2 q3 q4 q5 => k10 f' P F M nv' q1 q2 q3 (fun e he => q4 e (List.mem_append_right _ he)) q5
end DM2
