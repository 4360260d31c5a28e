/-! THE READER'S FUNCTIONS: all parameters -/
/-- behind the parameters: the block -/
def FK (l : Launch) (E : EN) (w : CO) (d x0 : Nat) (s : CS) (f : RH) (Q : KO → CS → RH → Prop) : Prop := oc f x0 11 ∧ (∃ a51 : Nat, vl f x0 150 = .ref a51 ∧ (oc f x0 11 ∧ EvC l E w d MX11_block [.ref x0] s f (fun o s52 f53 => KP o (fun r => ∃ a54 : Nat, r = some (.ref a54) ∧ (oc f53 a51 12 ∧ f53.2.2.2 ≤ a51 ∧ ∀ f55 : RH, f55 = fset f53 a51 158 (.ref a54) → Q (.inl none) s52 f55)) (fun k => Q (.inr k) s52 f53))))
section PC2
variable (l : Launch) (E : EN) (w : CO) (wm : MO) (dt d : Nat) (ch : Nat → Nat) (n hf x0 nw na ca cap c : Nat) (O : Nat → Od) (A : List (Nat × Nat × Nat)) (B : List Tok) (Q : KO → CS → RH → Prop)
/-- what the parameters leave, and what then follows -/
def paQ (m : Int32) (p : Nat) (vs : List Nat) (s : CS) (f : RH) : Prop :=
  (∀ k pl s' f', cFl s s' k pl → f'.2.1 = f.2.1 → (1 ≤ k ∧ k ≤ 6) → (∀ F G, F k pl → PR l E wm dt ch n hf 0 O c B m p vs F G) → Q (.inr 1) s' f') ∧
  (∀ p' vs' s' f', cFl s s' 1 (tk ch n p').2.1 → f'.2.1 = f.2.1 → (tk ch n p').1 = 4 → (∀ F G, G p' vs' → PR l E wm dt ch n hf 0 O c B m p vs F G) → Q (.inr 1) s' f') ∧
  (∀ p' vs' s' f', p < p' → cfP s s' → cSc ch n p' 0 s' → rdR w f' x0 nw na ca cap vs' A → vl f' nw 155 = .int (nI vs'.length) → gZ [nw, na] f f' → f'.1 = f.1 → f'.2.1 = f.2.1 → (∀ j, ¬ j = 155 → ¬ j = 156 → vl f' nw j = vl f nw j) → (∀ F G, G p' vs' → PR l E wm dt ch n hf 0 O c B m p vs F G) → FK l E w d x0 s' f' Q)
end PC2
section PC3
variable {l : Launch} {E : EN} {w : CO} {wm : MO} {dt d : Nat} {ch : Nat → Nat} {n hf p p2 x0 nw na ca cap c : Nat} {vs vs2 : List Nat} {O : Nat → Od} {A : List (Nat × Nat × Nat)} {B : List Tok} {s s2 : CS} {f f2 : RH} {Q : KO → CS → RH → Prop} {m m2 : Int32}
theorem paQ.step (h : paQ l E w wm dt d ch n hf x0 nw na ca cap c O A B Q m p vs s f) (hp : p ≤ p2) (hs : cfP s s2) (hg : gZ [nw, na] f f2) (e1 : f2.1 = f.1) (e2 : f2.2.1 = f.2.1) (ej : ∀ j, ¬ j = 155 → ¬ j = 156 → vl f2 nw j = vl f nw j) (hP : ∀ F G, PR l E wm dt ch n hf 0 O c B m2 p2 vs2 F G → PR l E wm dt ch n hf 0 O c B m p vs F G) : paQ l E w wm dt d ch n hf x0 nw na ca cap c O A B Q m2 p2 vs2 s2 f2 := by
  obtain ⟨h1, h2, h3⟩ := h
  refine ⟨fun k pl s' f' q1 q2 q3 q4 => h1 k pl s' f' ⟨hs.trans q1.1, q1.2⟩ (by omega) q3 (fun F G z => hP F G (q4 F G z)), fun p' vs' s' f' q1 q2 q3 q4 => h2 p' vs' s' f' ⟨hs.trans q1.1, q1.2⟩ (by omega) q3 (fun F G z => hP F G (q4 F G z)), fun p' vs' s' f' q1 q2 q3 q4 q5 q6 q7 q8 q9 q10 => h3 p' vs' s' f' (by omega) (hs.trans q2) q3 q4 q5 (hg.trans q6 (fun _ z => Or.inl z)) (by omega) (by omega) (fun j j1 j2 => (q9 j j1 j2).trans (ej j j1 j2)) (fun F G z => hP F G (q10 F G z))⟩
/-- behind the last one -/
theorem R_pars0 (hst : l.stackTraces = false) (h : cSc ch n p 1 s) (hc : cKc E f) (hr : rdR w f x0 nw na ca cap vs A) (h155 : vl f nw 155 = .int (nI vs.length)) (hQ : paQ l E w wm dt (d + 9) ch n hf x0 nw na ca cap c O A B Q 0 p vs s f) : ExC l E w (d + 9 + 1) MX11_function 209 [some (.ref x0), none, some (.int 0)] [] s f Q := by
  obtain ⟨h1, h2, h3⟩ := hQ
  have ht := h.tk
  have hwk : wk (tk ch n p) = 2 := if_neg h.2.1.2.2
  refine vR11_function_209 ⟨fun _ => ⟨hr.1.1, hr.1.2.1, ?_⟩, fun z => absurd rfl z⟩
  refine C_takeS hst (c := 41) h hc.1 (by decide) (fun _ => Nat.le_refl _) (fun y s' hF => h1 2 _ s' f hF rfl (by decide) (fun F G z => PR_end hst (fun _ => by rw [hwk]; exact z) (fun y1 y2 => absurd ⟨y1, y2⟩ y))) (fun _ _ y => absurd y (by decide)) (fun y1 y2 _ s' y4 hF => h2 _ vs s' f hF rfl y4 (fun F G z => PR_end hst (fun y => absurd ⟨y1, y2⟩ y) (fun _ _ => z))) (fun y1 y2 _ s' hcf hs => ⟨rfl, ?_⟩)
  rw [if_neg (by decide), if_pos (by decide)] at hs
  exact h3 _ vs s' f (by have := ht.1.2.1; have := ht.2.2.2.2 (by omega); omega) hcf hs hr h155 (gZ.rf _ _) rfl rfl (fun _ _ _ => rfl) (fun F G z => PR_end hst (fun y => absurd ⟨y1, y2⟩ y) (fun _ _ => z))
theorem R_pars1 (hst : l.stackTraces = false) : ∀ b p vs s f, 5 ≤ vs.length + b → vs.length ≤ 4 → cSc ch n p 1 s → cKc E f → rdR w f x0 nw na ca cap vs A → vl f nw 155 = .int (nI vs.length) → f.2.2.2 ≤ f.1 → paQ l E w wm dt (d + 9) ch n hf x0 nw na ca cap c O A B Q 1 p vs s f → ExC l E w (d + 9 + 1) MX11_function 209 [some (.ref x0), none, some (.int 1)] [] s f Q := by
  intro b
  induction b with
  | zero => intro p vs s f h1 h2; omega
  | succ b ih =>
    intro p vs s f hb h4 h hc hr h155 hfb hQ
    have ht := h.tk
    have hwk : wk (tk ch n p) = 2 := if_neg h.2.1.2.2
    obtain ⟨t, et⟩ : ∃ t, tk ch n p = t := ⟨_, rfl⟩
    rw [et] at hwk ht
    have hp2 : t.1 = 1 → p < t.2.2.2 := fun z => by have := ht.1.2.1; have := ht.2.2.2.2 (by omega); omega
    refine vR11_function_209 ⟨fun z => absurd z (by decide), fun _ => ⟨hr.1.1, ?_⟩⟩
    refine R_param hst h hc hr h155 h4 hfb et (fun y s' hF => ?_) (fun y1 y2 y3 s' hF => ?_) (fun y1 y2 y3 y4 s' hF => ?_) (fun y1 y2 y3 y4 y5 s' f' hF ef => ?_) (fun y1 y2 y3 y4 s' f' hcf hs hr' h155' hg e1 e2 ej => ⟨rfl, hr'.1.1, hr'.1.2.1, ?_⟩)
    · exact hQ.1 2 _ s' f hF rfl (by decide) (fun F G z => PR_step hst h4 et (fun _ => by rw [hwk]; exact z) (fun z1 z2 => absurd ⟨z1, z2⟩ y) (fun z1 z2 => absurd ⟨z1, z2⟩ y) (fun z1 z2 => absurd ⟨z1, z2⟩ y) (fun z1 z2 => absurd ⟨z1, z2⟩ y))
    · exact hQ.1 3 _ s' f hF rfl (by decide) (fun F G z => PR_step hst h4 et (fun q => absurd ⟨y1, y2⟩ q) (fun _ _ _ => z) (fun _ _ q => absurd q (by omega)) (fun _ _ q => absurd q (by omega)) (fun _ _ q => absurd q (by omega)))
    · exact hQ.1 4 _ s' f hF rfl (by decide) (fun F G z => PR_step hst h4 et (fun q => absurd ⟨y1, y2⟩ q) (fun _ _ q => absurd q (by omega)) (fun _ _ _ _ => z) (fun _ _ _ q => absurd y4 q) (fun _ _ _ q => absurd y4 q))
    · have hw1 : wk (tk ch n t.2.2.2) = 1 := if_pos y5
      exact hQ.1 1 _ s' f' hF ef (by decide) (fun F G z => PR_step hst h4 et (fun q => absurd ⟨y1, y2⟩ q) (fun _ _ q => absurd q (by omega)) (fun _ _ _ q => absurd q y4) (fun _ _ _ _ _ => PR_end hst (fun _ => by rw [hw1]; exact z) (fun q => absurd q (by omega))) (fun _ _ _ _ q => absurd q (by omega)))
    · have hlen : (vs ++ [t.2.2.1]).length = vs.length + 1 := by rw [List.length_append]; rfl
      have hc' : cKc E f' := hc.geZ hg (fun a ha => by
        simp only [List.mem_cons, List.not_mem_nil, or_false] at ha
        rcases ha with rfl | rfl
        · exact hr.2.1.2.2.2.1
        · exact hr.2.2.1.2.2.2.1) hfb
      have hfb' : f'.2.2.2 ≤ f'.1 := by rw [hg.2.1, e1]; exact hfb
      have ht' := hs.tk
      have q1 := hp2 y1
      refine C_is hst (c := 44) hs.2.1.1 (ht'.1.1) ht'.2.2.2.1 (by decide) ⟨_, rfl, pk_b (fun y => ?_) (fun y => ⟨hr'.1.1, hr'.1.2.1, C_nextS hst hs hc'.1 (fun s2 y5 hF => ?_) (fun s2 hcf2 hs2 => ⟨rfl, ?_⟩)⟩)⟩
      · rw [decide_eq_false y]
        exact R_pars0 (dt := dt) (c := c) (O := O) (B := B) (wm := wm) (hf := hf) hst hs hc' hr' (by rw [hlen]; exact h155') (hQ.step (by omega) hcf hg e1 e2 ej (fun F G z => PR_step hst h4 et (fun q => absurd ⟨y1, y2⟩ q) (fun _ _ q => absurd q (by omega)) (fun _ _ _ q => absurd q y4) (fun _ _ _ _ _ => z) (fun _ _ _ _ q1 q2 => absurd ⟨q1, q2⟩ y)))
      · have hw1 : wk (tk ch n (tk ch n t.2.2.2).2.2.2) = 1 := if_pos y5
        have h4' : (vs ++ [t.2.2.1]).length ≤ 4 := by omega
        exact hQ.1 1 _ s2 f' ⟨hcf.trans hF.1, hF.2⟩ e2 (by decide) (fun F G z => PR_step hst h4 et (fun q => absurd ⟨y1, y2⟩ q) (fun _ _ q => absurd q (by omega)) (fun _ _ _ q => absurd q y4) (fun _ _ _ _ q => absurd y q) (fun _ _ _ _ _ _ => PR_step hst h4' rfl (fun _ => by rw [hw1]; exact z) (fun q => absurd q (by omega)) (fun q => absurd q (by omega)) (fun q => absurd q (by omega)) (fun q => absurd q (by omega))))
      · rw [decide_eq_true y]
        have q2 : t.2.2.2 < (tk ch n t.2.2.2).2.2.2 := by have := ht'.1.2.1; have := ht'.2.2.2.2 (by omega); omega
        exact ih _ (vs ++ [t.2.2.1]) s2 f' (by omega) (by omega) hs2 hc' hr' (by rw [hlen]; exact h155') hfb' (hQ.step (by omega) (hcf.trans hcf2) hg e1 e2 ej (fun F G z => PR_step hst h4 et (fun q => absurd ⟨y1, y2⟩ q) (fun _ _ q => absurd q (by omega)) (fun _ _ _ q => absurd q y4) (fun _ _ _ _ q => absurd y q) (fun _ _ _ _ _ _ => z)))
end PC3
