/-! THE READER'S FUNCTIONS -/
section FC
variable {l : Launch} {E : EN} {w : CO} {wm : MO} {dt d : Nat} {ch : Nat → Nat} {n hf p o x0 c : Nat} {vs vs' : List Nat} {O : Nat → Od} {A : List (Nat × Nat × Nat)} {B : List Tok} {s : CS} {f f' : RH} {Q : KO → CS → RH → Prop} {Fn : List FE} {s00 : MS} {k pl : Nat}
def FQ0 (hf : Nat) (s00 : MS) (Q : Option Value → MS → Prop) : Nat → Nat → Prop := fun k pl => ∀ s', mTF hf s00 k pl s' → Q none s'
def GQ0 (l : Launch) (E : EN) (wm : MO) (dt : Nat) (ch : Nat → Nat) (n hf c : Nat) (O : Nat → Od) (B : List Tok) (Fn : List FE) (t1 : Tok) (s00 : MS) (Q : Option Value → MS → Prop) : Nat → List Nat → Prop := fun p' vs' => (¬ ((tk ch n p').1 = 3 ∧ (tk ch n p').2.2.1 = 123) → ∀ s', mTF hf s00 (wk (tk ch n p')) (tk ch n p').2.1 s' → Q none s') ∧ ((tk ch n p').1 = 3 → (tk ch n p').2.2.1 = 123 → ∀ s', mTt ch n hf s00 ((((tk ch n p').2.2.2, 0 + 1), vs', O, c, B), [(0, 12 * (1 - hf) + Fn.length, 0)], Fn ++ [(t1.2.2.1, t1.2.1, vs'.length, 4000 * (1 - hf) + c, 0)]) s' → TE l E wm dt s' Q)
theorem Fn_go (hst : l.stackTraces = false) (hc : c < 3900) (hFb : ∀ u ∈ fnm Fn, u < 2 ^ 50) {t t1 t2 : Tok} (et : tk ch n p = t) (et1 : tk ch n t.2.2.2 = t1) (et2 : tk ch n t1.2.2.2 = t2) (z0 : kw t = 0) (zk : t.1 = 1) (z1 : t1.1 = 1) (z2 : kw t1 = 41) (z3 : Fn.length < 12) (z4 : ¬ dupN (fnm Fn) t1.2.2.1) (z5 : t2.1 = 3) (z6 : t2.2.2.1 = 40) {Q : Option Value → MS → Prop}
    (hP : PR l E wm (dt + 1) ch n hf 0 O c B (bI (decide (¬ ((tk ch n t2.2.2.2).1 = 3 ∧ (tk ch n t2.2.2.2).2.2.1 = 41)))) t2.2.2.2 [] (FQ0 hf s00 Q) (GQ0 l E wm dt ch n hf c O B Fn t1 s00 Q)) : ∀ s, mT0 ch n hf s00 (((p, 0), vs, O, c, B), [], Fn) s → TE l E wm dt s Q := fun s hs =>
  T_fn hst hs (by rw [et]; omega) (by omega) hc hFb et et1 et2 (fun z => absurd z0 z) (fun _ z => absurd ⟨z1, z2⟩ z) (fun _ _ _ z => absurd z (by omega)) (fun _ _ _ _ z => absurd z z4) (fun _ _ _ _ _ z => absurd ⟨z5, z6⟩ z) (fun _ _ _ _ _ _ _ => hP)
theorem Fn_bad (hst : l.stackTraces = false) (hc : c < 3900) (hFb : ∀ u ∈ fnm Fn, u < 2 ^ 50) {t t1 t2 : Tok} (et : tk ch n p = t) (et1 : tk ch n t.2.2.2 = t1) (et2 : tk ch n t1.2.2.2 = t2) (z0 : kw t = 0) (zk : t.1 = 1)
    (H : (¬ (t1.1 = 1 ∧ kw t1 = 41) ∧ k = wk t1 ∧ pl = t1.2.1) ∨ (t1.1 = 1 ∧ kw t1 = 41 ∧ Fn.length = 12 ∧ k = 3 ∧ pl = t1.2.1) ∨ (t1.1 = 1 ∧ kw t1 = 41 ∧ Fn.length < 12 ∧ dupN (fnm Fn) t1.2.2.1 ∧ k = 4 ∧ pl = t1.2.1) ∨ (t1.1 = 1 ∧ kw t1 = 41 ∧ Fn.length < 12 ∧ ¬ dupN (fnm Fn) t1.2.2.1 ∧ ¬ (t2.1 = 3 ∧ t2.2.2.1 = 40) ∧ k = wk t2 ∧ pl = t2.2.1)) : TB0 l E wm dt ch n hf s00 (((p, 0), vs, O, c, B), [], Fn) k pl := by
  intro Q hQ s hs
  rcases H with ⟨y, rfl, rfl⟩ | ⟨y1, y2, y3, rfl, rfl⟩ | ⟨y1, y2, y3, y4, rfl, rfl⟩ | ⟨y1, y2, y3, y4, y5, rfl, rfl⟩
  · exact T_fn hst hs (by rw [et]; omega) (by omega) hc hFb et et1 et2 (fun z => absurd z0 z) (fun _ _ => hQ) (fun _ a b => absurd ⟨a, b⟩ y) (fun _ a b => absurd ⟨a, b⟩ y) (fun _ a b => absurd ⟨a, b⟩ y) (fun _ a b => absurd ⟨a, b⟩ y)
  · exact T_fn hst hs (by rw [et]; omega) (by omega) hc hFb et et1 et2 (fun z => absurd z0 z) (fun _ z => absurd ⟨y1, y2⟩ z) (fun _ _ _ _ => hQ) (fun _ _ _ z => absurd z (by omega)) (fun _ _ _ z => absurd z (by omega)) (fun _ _ _ z => absurd z (by omega))
  · exact T_fn hst hs (by rw [et]; omega) (by omega) hc hFb et et1 et2 (fun z => absurd z0 z) (fun _ z => absurd ⟨y1, y2⟩ z) (fun _ _ _ z => absurd z (by omega)) (fun _ _ _ _ _ => hQ) (fun _ _ _ _ z => absurd y4 z) (fun _ _ _ _ z => absurd y4 z)
  · exact T_fn hst hs (by rw [et]; omega) (by omega) hc hFb et et1 et2 (fun z => absurd z0 z) (fun _ z => absurd ⟨y1, y2⟩ z) (fun _ _ _ z => absurd z (by omega)) (fun _ _ _ _ z => absurd z y4) (fun _ _ _ _ _ _ => hQ) (fun _ _ _ _ _ a b => absurd ⟨a, b⟩ y5)
end FC
/-- the Reader but for the function that is read -/
def rd0 (w : CO) (f : RH) (x0 ca cap : Nat) (A : List (Nat × Nat × Nat)) : Prop :=
  (oc f x0 11 ∧ vl f x0 147 = .ref (w.1 2) ∧ x0 < f.1 ∧ f.2.2.2 ≤ x0) ∧
  (vl f x0 151 = .ref ca ∧ tg f ca = some (.inr 8) ∧ ca < f.1 ∧ f.2.2.2 ≤ ca ∧ ln f ca = cap ∧ vl f x0 152 = .int (nI A.length) ∧ (A.length ≤ cap ∧ 16 ≤ cap ∧ cap ≤ 16 + 4 * A.length ∧ cap ≤ 8000) ∧ ∀ k, k < A.length → vl f ca k = .ref (A.getD k (0, 0, 0)).1 ∧ oc f (A.getD k (0, 0, 0)).1 19 ∧ (A.getD k (0, 0, 0)).1 < f.1)
/-- a function that was read -/
def fnE (hf : Nat) (f : RH) (O : Nat → Od) (C : List CE) (L c : Nat) (F : FE) (D e : Nat) : Prop :=
  (L ≤ D ∧ D < f.1) ∧ oc f D 12 ∧ vl f D 153 = .long (lN (cv F.1)) ∧ F.1 < 27 ^ 8 ∧ vl f D 155 = .int (nI F.2.2.1) ∧ vl f D 154 = .int (nI F.2.1) ∧ ∃ bd nv : Nat, vl f D 156 = .int (nI nv) ∧ F.2.2.2.2 = nv + 1 ∧ vl f D 158 = .ref bd ∧ (F.2.2.1 ≤ nv ∧ nv ≤ 14) ∧ (F.2.2.2.1 ≤ e ∧ e + 1 < 4000 * (1 - hf) + c ∧ 4000 * (1 - hf) ≤ F.2.2.2.1) ∧ Kg f O C L [] nv F.2.2.2.1 e (fun f' P Fm M nv' => RepX f' P Fm M nv' 72 false (.ref bd) F.2.2.2.1 e 10 700) ∧ O e = (2, 0, 0, 0, 0) ∧ O (e + 1) = (20, 0, 0, 0, 0)
theorem Kg.keepZ {f f' : RH} {O O' : Nat → Od} {C C' : List CE} {L nv nv' a b : Nat} {D D' D2 : List Nat} {T : RH → Pg → (Nat → Nat) → Nat → Nat → Prop} (k : Kg f O C L D nv a b T) (hg : gZ D' f f') (hD : ∀ x ∈ D', x < L ∨ x ∈ D ∨ f.1 ≤ x ∨ tg f x = some (.inr 8)) (hD2 : ∀ x ∈ D2, x ∈ D ∨ f.1 ≤ x) (hO : ∀ i, a ≤ i → i < b → O' i = O i) (hC : ∀ e ∈ C, e ∈ C') (hv : nv ≤ nv') : Kg f' O' C' L D2 nv' a b T := by
  obtain ⟨lo, hi, k1, k2, k3, k4⟩ := k
  have l := hg.1
  refine ⟨lo, hi, k1, by omega, fun x hx => ?_, k4.keep (fun x x1 x2 x3 => hg.ce (by omega) (fun z => ?_)) hO hC hv⟩
  · rcases hD2 x hx with z | z
    · exact k3 x z
    · exact Or.inr (by omega)
  · rcases hD x z with y | y | y | y
    · omega
    · have := k3 x y; omega
    · omega
    · exact x3 y
theorem cLk.wideZ {f f' : RH} {lo p p1 lo2 p2 p3 : Nat} {C : List CE} {A : List (Nat × Nat × Nat)} {D : List Nat} (h : cLk f lo p p1 C A) (hg : gZ D f f') (hD : ∀ a ∈ D, a < lo ∨ f.1 ≤ a ∨ ¬ tg f a = some (.inl 19)) (hl : lo2 ≤ lo) (hp : p2 ≤ p) (hp3 : p1 ≤ p3) : cLk f' lo2 p2 p3 C A := by
  refine ⟨fun e he => ?_, h.2.1, h.2.2.1, fun a ha => ?_⟩
  · obtain ⟨⟨q1, q2⟩, q3, q4, q5, q6, q7, q8⟩ := h.1 e he
    have c : f'.2.2.1 e.1 = f.2.2.1 e.1 := hg.ce q2 (fun z => by
      rcases hD _ z with y | y | y
      · omega
      · omega
      · exact y q3.1)
    have := hg.1
    exact ⟨⟨by omega, by omega⟩, ocE c q3, by rw [(cellE c).2.2]; exact q4, by rw [(cellE c).2.2]; exact q5, by rw [(cellE c).2.2]; exact q6, by rw [(cellE c).2.2]; exact q7, q8⟩
  · have := h.2.2.2 a ha; omega
theorem fnE.keep {hf : Nat} {f f' : RH} {O O' : Nat → Od} {C C' : List CE} {L c c' : Nat} {F : FE} {D e : Nat} {D' : List Nat} (h : fnE hf f O C L c F D e) (hg : gZ D' f f') (hD : ∀ x ∈ D', x < L ∨ f.1 ≤ x ∨ tg f x = some (.inr 8)) (hO : ∀ i, i < 4000 * (1 - hf) + c → O' i = O i) (hC : ∀ e ∈ C, e ∈ C') (hc : c ≤ c') : fnE hf f' O' C' L c' F D e := by
  obtain ⟨⟨a1, a2⟩, a3, a4, a5, a6, a7, bd, nv, b1, b2, b3, b4, b5, b6, b7, b8⟩ := h
  have hc' : f'.2.2.1 D = f.2.2.1 D := hg.ce a2 (fun z => by
    rcases hD _ z with y | y | y
    · omega
    · omega
    · rw [a3.1] at y; cases y)
  have hl := hg.1
  have hv := (cellE hc').2.2
  exact ⟨⟨a1, by omega⟩, ocE hc' a3, by rw [hv]; exact a4, a5, by rw [hv]; exact a6, by rw [hv]; exact a7, bd, nv, by rw [hv]; exact b1, b2, by rw [hv]; exact b3, b4, ⟨b5.1, by omega, b5.2.2⟩, b6.keepZ hg (fun x hx => (hD x hx).elim Or.inl (fun y => Or.inr (Or.inr y))) (fun x hx => absurd hx List.not_mem_nil) (fun i _ i2 => hO i (by omega)) hC (Nat.le_refl _), by rw [hO e (by omega)]; exact b7, by rw [hO (e + 1) (by omega)]; exact b8⟩
section FS
variable (l : Launch) (E : EN) (w : CO) (wm : MO) (dt : Nat) (ch : Nat → Nat) (n hf x0 fa L K0 : Nat)
/-- between two functions -/
def rdS (p ca cap c : Nat) (O : Nat → Od) (A : List (Nat × Nat × Nat)) (C : List CE) (Fn : List FE) (DL EL : Nat → Nat) (s : CS) (f : RH) : Prop :=
  (cSc ch n p 0 s ∧ cKc E f ∧ f.2.2.2 ≤ f.1) ∧ rd0 w f x0 ca cap A ∧ (vl f x0 148 = .ref fa ∧ tg f fa = some (.inr 7) ∧ ln f fa = 12 ∧ (fa < L ∧ x0 < L ∧ L ≤ f.1) ∧ f.2.2.2 ≤ fa ∧ vl f x0 149 = .int (nI Fn.length) ∧ Fn.length ≤ 12 ∧ (fnm Fn).Nodup) ∧ (∀ k, k < Fn.length → vl f fa k = .ref (DL k) ∧ fnE hf f O C L c (Fn.getD k (0, 0, 0, 0, 0)) (DL k) (EL k)) ∧ cLk f L 0 p C A ∧ (n ≤ 1260 ∧ c ≤ 3 * p ∧ 2 * C.length ≤ p) ∧ f.2.1 + 100 * (n - p) + 20100 ≤ 2 * cap + K0 ∧ K0 ≤ BM
def rdOk (p : Nat) (vs : List Nat) (c : Nat) (O : Nat → Od) (C : List CE) (Fn : List FE) (s s' : CS) (f' : RH) : Prop :=
  ∃ (p' : Nat) (vs' : List Nat) (O' : Nat → Od) (c' ca' cap' : Nat) (A' : List (Nat × Nat × Nat)) (C' : List CE) (Fn' : List FE) (DL' EL' : Nat → Nat), rdS E w ch n hf x0 fa L K0 p' ca' cap' c' O' A' C' Fn' DL' EL' s' f' ∧ (p < p' ∧ cfP s s') ∧ ∀ s00, TT l E wm dt ch n hf s00 (((p, 0), vs, O, c, C.map toB), [], Fn) (((p', 0), vs', O', c', C'.map toB), [], Fn')
def rdBad (p : Nat) (vs : List Nat) (c : Nat) (O : Nat → Od) (C : List CE) (Fn : List FE) (s s' : CS) (f' : RH) : Prop :=
  ∃ k pl, cFl s s' k pl ∧ f'.2.1 ≤ K0 ∧ (1 ≤ k ∧ k ≤ 6) ∧ ∀ s00, TB0 l E wm dt ch n hf s00 (((p, 0), vs, O, c, C.map toB), [], Fn) k pl
end FS
