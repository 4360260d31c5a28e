/-! SPECS of expression, level, places, atom; steps that all lists share -/
/-- how a piece of level k ends -/
def okL (k : Nat) (q : Nat × Nat) (t : Tok) : Prop := ((q = (2, k) ∧ (lvT t = 9 ∨ lvT t < k)) ∨ (k ≤ 1 ∧ q = (3, k) ∧ lvT t = 1)) ∧ ¬ (t.1 = 3 ∧ t.2.2.1 = 91)
section SQ
variable (l : Launch) (E : EN) (w : CO) (wm : MO) (dm : Nat) (al : Int32) (ch : Nat → Nat) (n hf : Nat) (s0 : MS) (x0 nw na K0 : Nat)
def lvS (k p : Nat) : Prop := ∀ (o ca cap c : Nat) (vs : List Nat) (O : Nat → Od) (A : List (Nat × Nat × Nat)) (B : List Tok) (X : List XE) (s : CS) (f : RH) (d : Nat) (Q : KO → CS → RH → Prop), pIn E w ch n x0 nw na K0 p o ca cap c vs A B X s f → X.length ≤ 6 * o + k → ¬ topk X = 2 → (∀ x X', X = x :: X' → x.1 = 1 → slv x.2.1 < k) → (al = 0 ∨ ¬ X = []) → 20 * (10 - o) + 39 ≤ d + k → (∀ v s' f', pOk l E w wm dm al ch n hf s0 x0 nw na p o ca cap c vs O A B X s f (okL k) (7 * (10 - o) + 7 - k) v s' f' → Q (.inl (some (.ref v))) s' f') → (∀ s' f', pBad l E wm dm al ch n hf s0 K0 p o c vs O B X s s' f' → Q (.inr 1) s' f') → EvC l E w d MX11_level [.ref x0, .int (nI k)] s f Q
def xSp (p : Nat) : Prop := ∀ (o ca cap c : Nat) (vs : List Nat) (O : Nat → Od) (A : List (Nat × Nat × Nat)) (B : List Tok) (X : List XE) (s : CS) (f : RH) (d : Nat) (Q : KO → CS → RH → Prop), pIn E w ch n x0 nw na K0 p o ca cap c vs A B X s f → X.length ≤ 6 * o → ¬ topk X = 2 → (∀ x X', X = x :: X' → ¬ x.1 = 1) → (al = 0 ∨ ¬ X = []) → 20 * (10 - o) + 40 ≤ d → (∀ v s' f', pOk l E w wm dm al ch n hf s0 x0 nw na p o ca cap c vs O A B X s f okE (7 * (10 - o) + 7) v s' f' → Q (.inl (some (.ref v))) s' f') → (∀ s' f', pBad l E wm dm al ch n hf s0 K0 p o c vs O B X s s' f' → Q (.inr 1) s' f') → EvC l E w d MX11_expression [.ref x0] s f Q
def plS (p : Nat) : Prop := ∀ (o ca cap c : Nat) (vs : List Nat) (O : Nat → Od) (A : List (Nat × Nat × Nat)) (B : List Tok) (X : List XE) (s : CS) (f : RH) (d : Nat) (Q : KO → CS → RH → Prop), pIn E w ch n x0 nw na K0 p o ca cap c vs A B X s f → X.length ≤ 6 * o + 5 → ¬ ((tk ch n p).1 = 3 ∧ ((tk ch n p).2.2.1 = 45 ∨ (tk ch n p).2.2.1 = 33) ∧ ¬ topk X = 2) → (al = 0 ∨ ¬ X = []) → 20 * (10 - o) + 33 ≤ d → (∀ v s' f', pOk l E w wm dm al ch n hf s0 x0 nw na p o ca cap c vs O A B X s f (fun q t => q = (1, 0) ∧ ¬ (t.1 = 3 ∧ t.2.2.1 = 91)) (7 * (10 - o) + 2) v s' f' → Q (.inl (some (.ref v))) s' f') → (∀ s' f', pBad l E wm dm al ch n hf s0 K0 p o c vs O B X s s' f' → Q (.inr 1) s' f') → EvC l E w d MX11_places [.ref x0] s f Q
def aS (p : Nat) : Prop := ∀ (o ca cap c : Nat) (vs : List Nat) (O : Nat → Od) (A : List (Nat × Nat × Nat)) (B : List Tok) (X : List XE) (s : CS) (f : RH) (d : Nat) (Q : KO → CS → RH → Prop), pIn E w ch n x0 nw na K0 p o ca cap c vs A B X s f → X.length ≤ 6 * o + 5 → ¬ ((tk ch n p).1 = 3 ∧ ((tk ch n p).2.2.1 = 45 ∨ (tk ch n p).2.2.1 = 33) ∧ ¬ topk X = 2) → 20 * (10 - o) + 32 ≤ d → (∀ v s' f', pOk l E w wm dm al ch n hf s0 x0 nw na p o ca cap c vs O A B X s f (fun q _ => q = (1, 0)) (7 * (10 - o) + 1) v s' f' → Q (.inl (some (.ref v))) s' f') → (∀ s' f', pBad l E wm dm al ch n hf s0 K0 p o c vs O B X s s' f' → Q (.inr 1) s' f') → EvC l E w d MX11_atom [.ref x0] s f Q
end SQ
theorem okL.okE {q : Nat × Nat} {t : Tok} (h : okL 0 q t) : okE q t := by
  obtain ⟨h1, h2⟩ := h
  refine ⟨?_, h2⟩
  rcases h1 with ⟨rfl, h⟩ | ⟨-, rfl, h⟩
  · exact Or.inl ⟨rfl, by omega⟩
  · exact Or.inr ⟨rfl, h⟩
section LS
variable {l : Launch} {E : EN} {w : CO} {wm : MO} {dm d : Nat} {al : Int32} {ch : Nat → Nat} {n hf : Nat} {s0 : MS} {x0 nw na K0 lo pc p o ca cap c gm p1 o1 ca1 cap1 c1 p2 o2 c2 K fl N q u u' r m k pl : Nat} {vs vs1 : List Nat} {O O1 O2 : Nat → Od} {A A0 dA : List (Nat × Nat × Nat)} {B : List Tok} {dC : List CE} {X X1 X2 : List XE} {s s1 s2 : CS} {f f1 f2 : RH} {q1 q2 : Nat × Nat} {wg V cc e : Nat → Nat} {S L : Nat → Int32} {Q : KO → CS → RH → Prop}
theorem lvS.ex (hst : l.stackTraces = false) (h : lvS l E w wm dm al ch n hf s0 x0 nw na K0 0 p) : xSp l E w wm dm al ch n hf s0 x0 nw na K0 p := by
  intro o ca cap c vs O A B X s f d Q hi hX ht hx hal hd hok hbad
  obtain ⟨d', rfl⟩ : ∃ d', d = d' + 1 := ⟨d - 1, by omega⟩
  refine eR11_expression hst ⟨hi.2.2.1.1.1, h o ca cap c vs O A B X s f d' _ hi (by omega) ht (fun x X' e z => absurd z (hx x X' e)) hal (by omega) (fun v s' f' k => ⟨v, rfl, hok v s' f' ?_⟩) hbad⟩
  obtain ⟨p', vs', O', c', dC, dA, ca', cap', q', k1, k2, ⟨k3, k3'⟩, k4⟩ := k
  exact ⟨p', vs', O', c', dC, dA, ca', cap', q', k1, k2, ⟨k3.okE, k3'⟩, k4⟩
theorem pOk.mono {Rq : Nat × Nat → Tok → Prop} {v gm' : Nat} (k : pOk l E w wm dm al ch n hf s0 x0 nw na p o ca cap c vs O A B X s f Rq gm v s1 f1) (hg : gm ≤ gm') : pOk l E w wm dm al ch n hf s0 x0 nw na p o ca cap c vs O A B X s f Rq gm' v s1 f1 := by
  obtain ⟨p', vs', O', c', dC, dA, ca', cap', q', k1, k2, k3, ⟨k4, k5, k6⟩, k7⟩ := k
  exact ⟨p', vs', O', c', dC, dA, ca', cap', q', k1, k2, k3, ⟨k4, k5, k6.mono hg (Nat.le_refl _)⟩, k7⟩
theorem pM.flt (h : pM l E w wm dm al ch n hf s0 x0 nw na lo pc p o ca cap c vs O A B X s f q1 p1 o1 ca1 cap1 c1 vs1 O1 dC dA X1 s1 f1) (hF : cFl s1 s2 k pl) (hb : f2.2.1 ≤ K0) (hk : 1 ≤ k ∧ k ≤ 6) (hx : XB l E wm dm al ch n hf s0 q1 ((p1, o1), vs1, O1, c1, B ++ dC.map toB, X1) k pl) : pBad l E wm dm al ch n hf s0 K0 p o c vs O B X s s2 f2 :=
  ⟨k, pl, ⟨h.1.1.trans hF.1, hF.2⟩, hb, hk, h.2.2.1.bad hx⟩
theorem pM.bad (h : pM l E w wm dm al ch n hf s0 x0 nw na lo pc p o ca cap c vs O A B X s f (0, 0) p1 o1 ca1 cap1 c1 vs1 O1 dC dA X1 s1 f1) (k : pBad l E wm dm al ch n hf s0 K0 p1 o1 c1 vs1 O1 (B ++ dC.map toB) X1 s1 s2 f2) : pBad l E wm dm al ch n hf s0 K0 p o c vs O B X s s2 f2 := by
  obtain ⟨k, pl, hF, hb, hk, hx⟩ := k
  exact h.flt hF hb hk hx
/-- the node's own cell changes -/
theorem pC.own (h : pC l E w wm dm al ch n hf s0 x0 nw na lo pc p o ca cap c vs O A B X s f K fl N q u r gm wg q1 p1 o1 ca1 cap1 c1 vs1 O1 dC dA X1 s1 f1 m V S L cc e) (hi : pIn E w ch n x0 nw na K0 p o ca cap c vs A0 B X s f) (hg : gE [N] f1 f2) (hv : vl f2 N fl = .ref q) (hb : f2.2.1 = f1.2.1) (hK : ¬ K = 19 ∨ N < lo) : pC l E w wm dm al ch n hf s0 x0 nw na lo pc p o ca cap c vs O A B X s f K fl N q u r gm wg q1 p1 o1 ca1 cap1 c1 vs1 O1 dC dA X1 s1 f2 m V S L cc e := by
  obtain ⟨h1, ⟨n1, n2, n3, n4, n5⟩, a1, a2, a3, capN, h3, h4, h5, h6, h7, h8, h9, h10⟩ := h
  have hl := hg.1
  obtain ⟨⟨b1, b2, b3, b4, b5⟩, ⟨b11, b12, b13, b14, b15, b16⟩, ⟨b21, b22, b23, b24, b25, b26⟩, ⟨b31, b32, b33, b34, b35, b36⟩, -⟩ := id h3
  refine ⟨h1.heap hi hg (fun a ha => Or.inr ?_), ⟨hg.oc n1 n2, by omega, n3, hv, n5⟩, a1, a2, a3, capN, h3.keep hg (fun a ha _ => ?_), h4.keep hg (fun x hx => Or.inr (Or.inl ?_)) (fun x hx => Or.inl hx) (fun _ _ => rfl) (fun _ he => he) (Nat.le_refl _) (Nat.le_refl _), h5, by omega, h7, h8, h9, h10⟩
  · rw [List.mem_singleton.mp ha, n1.1]
    refine ⟨n3, fun z => (by cases z), ?_⟩
    rcases hK with z | z
    · exact Or.inr (fun y => by injection y with y; injection y with y; exact z y)
    · exact Or.inl z
  · rw [List.mem_singleton.mp ha]
    have tN := n1.1
    refine ⟨fun z => ?_, fun z => ?_, fun z => ?_, fun z => ?_⟩
    · rw [z, b1.1] at tN; injection tN with tN; injection tN with tN; exact n5 tN.symm
    · rw [z, b15] at tN; cases tN
    · rw [z, b25] at tN; cases tN
    · rw [z, b35] at tN; cases tN
  · rw [List.mem_singleton.mp hx]; exact List.mem_cons_self
/-- the kids as they will be -/
theorem pC.kids (h : pC l E w wm dm al ch n hf s0 x0 nw na lo pc p o ca cap c vs O A B X s f K fl N q u r gm wg q1 p1 o1 ca1 cap1 c1 vs1 O1 dC dA X1 s1 f1 m V S L cc e) (hm : m ≤ 1000) {f' : RH} {P : Pg} {F : Nat → Nat} {M nv' H : Nat} (hH : f1.1 ≤ H) (hb : H ≤ f'.2.2.2) (hA : Ag f.1 H f1 f') (hO : ∀ i, 4000 * (1 - hf) + c ≤ i → i < 4000 * (1 - hf) + c1 → oAg (O1 i) (P.1 i)) (hC : ∀ e ∈ dC, RS f' P F M e) (hv : vs1.length ≤ nv') : (nNs f' q m (fun k => .ref (V k)) ∧ nPs f' q m 169 S ∧ nPs f' q m 170 L) ∧ (cc 0 = 4000 * (1 - hf) + c ∧ cc m = 4000 * (1 - hf) + c1) ∧ ∀ k, k < m → (wg k ≤ hN p p1 ∧ cc k ≤ e k ∧ e k ≤ cc (k + 1) ∧ cc (k + 1) ≤ 4000 * (1 - hf) + c1 ∧ 4000 * (1 - hf) + c ≤ cc k) ∧ RepN f' P F M nv' gm (.ref (V k)) (cc k) (e k) (hN p p1 - wg k) := by
  obtain ⟨h1, h2, a1, a2, a3, capN, h3, h4, -⟩ := h
  refine ⟨h3.done hA hH hb hm, ⟨h4.1, h4.2.1⟩, fun k hk => ?_⟩
  obtain ⟨k1, k2, k3⟩ := h4.2.2 k hk
  exact ⟨⟨k2, k1.2.1, k1.2.2.1, k1.2.2.2, k1.1⟩, k3.rep hH hb hA (fun i i1 i2 => hO i (by omega) (by omega)) hC hv⟩
/-- what a kid of a list finds -/
theorem pC.inn {x : XE} (h : pC l E w wm dm al ch n hf s0 x0 nw na lo pc p o ca cap c vs O A B X s f K fl N q u r gm wg q1 p1 o1 ca1 cap1 c1 vs1 O1 dC dA (x :: X) s1 f1 m V S L cc e) (hi : pIn E w ch n x0 nw na K0 p o ca cap c vs A0 B X s f) (hA : 2 * A.length ≤ p + u) (hu : 1 ≤ u) (hr : r ≤ u) (hm : m ≤ u + 1) (hx : x.2.2.1 ≤ p1) : pIn E w ch n x0 nw na K0 p1 o1 ca1 cap1 c1 vs1 (A ++ dA) (B ++ dC.map toB) (x :: X) s1 f1 := by
  obtain ⟨h1, h2, a1, a2, a3, capN, h3, h4, h5, h6, h7, h8, h9, h10⟩ := h
  have hX := hi.2.2.2.2.1.2.1
  have hX2 := hi.2.2.2.2.2.1
  have hpp := h1.2.2.2.2.2.1
  refine h1.inn (u := u) hi hA h8 (by rw [List.length_cons]; omega) (fun y hy => ?_) (by omega)
  rcases List.mem_cons.mp hy with rfl | hy
  · exact hx
  · have := hX2 y hy; omega
/-- one more: E, added -/
theorem pC.one (hst : l.stackTraces = false) {x : XE} {sg plc : Int32} {G : CS → RH → Prop} (hE : xSp l E w wm dm al ch n hf s0 x0 nw na K0 p1) (h : pC l E w wm dm al ch n hf s0 x0 nw na lo pc p o ca cap c vs O A B X s f K fl N q u r gm wg (0, 0) p1 o1 ca1 cap1 c1 vs1 O1 dC dA (x :: X) s1 f1 m V S L cc e) (hi : pIn E w ch n x0 nw na K0 p o ca cap c vs A0 B X s f) (hA : 2 * A.length ≤ p + u) (hu : 1 ≤ u) (hr : r ≤ u) (hm : m ≤ u + 1) (hm1 : 2 * m ≤ p1) (hx : x.2.2.1 ≤ p1) (hx3 : 3 ≤ x.1) (hX : X.length + 1 ≤ 6 * o1) (hg : 7 * (10 - o1) + 7 ≤ gm) (hw : p + 2 * wg m ≤ p1) (hd : 20 * (10 - o1) + 40 ≤ d)
    (hG : ∀ v f3 p2 vs2 O2 c2 dC2 dA2 ca2 cap2 q2 s2, pC l E w wm dm al ch n hf s0 x0 nw na lo pc p o ca cap c vs O A B X s f K fl N q u r gm wg q2 p2 o1 ca2 cap2 c2 vs2 O2 (dC ++ dC2) (dA ++ dA2) (x :: X) s2 f3 (m + 1) (up V m v) (up S m sg) (up L m plc) (up cc (m + 1) (4000 * (1 - hf) + c2)) (up e m (4000 * (1 - hf) + c2)) → okE q2 (tk ch n p2) → f3.2.2.1 N = f1.2.2.1 N → (p1 < p2 ∧ c1 ≤ c2 ∧ ∀ i, i < 4000 * (1 - hf) + c1 → O2 i = O1 i) → G s2 f3)
    (hbad : ∀ s' f', pBad l E wm dm al ch n hf s0 K0 p o c vs O B X s s' f' → Q (.inr 1) s' f') : oc f1 x0 11 ∧ EvC l E w d MX11_expression [.ref x0] s1 f1 (fun o s13 f14 => KP o (fun r => ∃ a15 : Nat, r = some (.ref a15) ∧ (oc f14 q 17 ∧ EvC l E w d MX19_add [.ref q, .ref a15, .int sg, .int plc] s13 f14 (fun o s16 f17 => KP o (fun r => r = none ∧ G s16 f17) (fun k => Q (.inr k) s16 f17)))) (fun k => Q (.inr k) s13 f14)) := by
  have hI := h.inn hi hA hu hr hm hx
  obtain ⟨d', rfl⟩ : ∃ d', d = d' + 1 := ⟨d - 1, by omega⟩
  refine ⟨hI.2.2.1.1.1, hE o1 ca1 cap1 c1 vs1 O1 (A ++ dA) (B ++ dC.map toB) (x :: X) s1 f1 (d' + 1) _ hI (by rw [List.length_cons]; exact hX) (fun z => by have z : x.1 = 2 := z; omega) (fun y X' ey z => by injection ey with e1 e2; rw [← e1] at z; omega) (Or.inr (fun z => (by cases z))) hd (fun v s' f' k => ⟨v, rfl, ?_⟩) (fun s' f' k => hbad s' f' (h.1.bad k))⟩
  exact h.kid hst hi hw hm hu hm1 (k.mono hg) (fun f3 p2 vs2 O2 c2 dC2 dA2 ca2 cap2 q2 k1 k2 k3 k4 k5 => ⟨rfl, hG v f3 p2 vs2 O2 c2 dC2 dA2 ca2 cap2 q2 s' k1 k2 k3 ⟨k5.1, k5.2, k4⟩⟩)
/-- one more of a list: E, and whether a comma comes -/
theorem pC.list (hst : l.stackTraces = false) {x : XE} {G : Int32 → CS → RH → Prop} (hE : xSp l E w wm dm al ch n hf s0 x0 nw na K0 p1) (h : pC l E w wm dm al ch n hf s0 x0 nw na lo pc p o ca cap c vs O A B X s f K fl N q u r gm wg (0, 0) p1 o1 ca1 cap1 c1 vs1 O1 dC dA (x :: X) s1 f1 m V S L cc e) (hi : pIn E w ch n x0 nw na K0 p o ca cap c vs A0 B X s f) (hA : 2 * A.length ≤ p + u) (hu : 1 ≤ u) (hr : r ≤ u) (hm : m ≤ u + 1) (hm1 : 2 * m ≤ p1) (hx : x.2.2.1 ≤ p1) (hx3 : 3 ≤ x.1) (hX : X.length + 1 ≤ 6 * o1) (hg : 7 * (10 - o1) + 7 ≤ gm) (hw : p + 2 * wg m ≤ p1) (hd : 20 * (10 - o1) + 40 ≤ d)
    (hG : ∀ v f3 p2 vs2 O2 c2 dC2 dA2 ca2 cap2 q2 s2, pC l E w wm dm al ch n hf s0 x0 nw na lo pc p o ca cap c vs O A B X s f K fl N q u r gm wg q2 p2 o1 ca2 cap2 c2 vs2 O2 (dC ++ dC2) (dA ++ dA2) (x :: X) s2 f3 (m + 1) (up V m v) (up S m 0) (up L m 0) (up cc (m + 1) (4000 * (1 - hf) + c2)) (up e m (4000 * (1 - hf) + c2)) → okE q2 (tk ch n p2) → f3.2.2.1 N = f1.2.2.1 N → (p1 < p2 ∧ c1 ≤ c2) → G (bI (decide ((tk ch n p2).1 = 3 ∧ (tk ch n p2).2.2.1 = 44))) s2 f3)
    (hbad : ∀ s' f', pBad l E wm dm al ch n hf s0 K0 p o c vs O B X s s' f' → Q (.inr 1) s' f') : oc f1 x0 11 ∧ EvC l E w d MX11_expression [.ref x0] s1 f1 (fun o s13 f14 => KP o (fun r => ∃ a15 : Nat, r = some (.ref a15) ∧ (oc f14 q 17 ∧ EvC l E w d MX19_add [.ref q, .ref a15, .int 0, .int 0] s13 f14 (fun o s16 f17 => KP o (fun r => r = none ∧ (oc f17 x0 11 ∧ vl f17 x0 147 = .ref (w.1 2) ∧ (EvC l E w d MX2_is [.ref (w.1 2), .int 44] s16 f17 (fun o s18 f19 => KP o (fun r => ∃ v20 : Int32, r = some (.int v20) ∧ G v20 s18 f19) (fun k => Q (.inr k) s18 f19))))) (fun k => Q (.inr k) s16 f17)))) (fun k => Q (.inr k) s13 f14)) := by
  refine h.one hst (sg := 0) (plc := 0) (G := fun s16 f17 => oc f17 x0 11 ∧ vl f17 x0 147 = .ref (w.1 2) ∧ (EvC l E w d MX2_is [.ref (w.1 2), .int 44] s16 f17 (fun o s18 f19 => KP o (fun r => ∃ v20 : Int32, r = some (.int v20) ∧ G v20 s18 f19) (fun k => Q (.inr k) s18 f19)))) hE hi hA hu hr hm hm1 hx hx3 hX hg hw hd (fun v f3 p2 vs2 O2 c2 dC2 dA2 ca2 cap2 q2 s2 k1 k2 k3 k4 => ?_) hbad
  have hr3 := k1.1.2.1.2.1
  have hs3 := k1.1.1.2
  have ht := hs3.tk
  exact ⟨hr3.1.1, hr3.1.2.1, C_is hst (c := 44) hs3.2.1.1 ht.1.1 ht.2.2.2.1 (by decide) ⟨_, rfl, hG v f3 p2 vs2 O2 c2 dC2 dA2 ca2 cap2 q2 s2 k1 k2 k3 ⟨k4.1, k4.2.1⟩⟩⟩
end LS
