/-! COLLECTING: a node with its Nodes, so many kids read -/
section CL
variable (l : Launch) (E : EN) (w : CO) (wm : MO) (dm : Nat) (al : Int32) (ch : Nat → Nat) (n hf : Nat) (s0 : MS) (x0 nw na : Nat)
/-- u: bytes of the piece that no kid has -/
def pC (lo pc p o ca cap c : Nat) (vs : List Nat) (O : Nat → Od) (A : List (Nat × Nat × Nat)) (B : List Tok) (X : List XE) (s : CS) (f : RH) (K fl N q u r gm : Nat) (wg : Nat → Nat) (q1 : Nat × Nat) (p1 o1 ca1 cap1 c1 : Nat) (vs1 : List Nat) (O1 : Nat → Od) (dC : List CE) (dA : List (Nat × Nat × Nat)) (X1 : List XE) (s1 : CS) (f1 : RH) (m : Nat) (V : Nat → Nat) (S L : Nat → Int32) (cc e : Nat → Nat) : Prop :=
  pM l E w wm dm al ch n hf s0 x0 nw na lo pc p o ca cap c vs O A B X s f q1 p1 o1 ca1 cap1 c1 vs1 O1 dC dA X1 s1 f1 ∧ (oc f1 N K ∧ N < f1.1 ∧ f.1 ≤ N ∧ vl f1 N fl = .ref q ∧ ¬ K = 17) ∧
  ∃ a1 a2 a3 capN, NsB f1 f.1 q a1 a2 a3 capN m V S L ∧ Ks f1 O1 dC f.1 [N, q, a1, a2, a3] vs1.length gm (hN p p1) wg m V cc e (4000 * (1 - hf) + c) (4000 * (1 - hf) + c1) ∧
  (capN ≤ 4 * m + 2 ∧ f1.2.1 + 2 * cap + 100 * u ≤ f.2.1 + 2 * cap1 + 100 * (p1 - p) + 12 + 5 * capN ∧ c1 + 3 * p + 3 * u ≤ c + 3 * p1 + r ∧ 2 * dC.length + p + u ≤ p1 ∧ 2 * m ≤ p1 + 2 ∧ n ≤ 1260)
end CL
theorem hN_w {p p1 p2 w : Nat} (h : p + 2 * w ≤ p1) (h2 : p1 ≤ p2) : hN p1 p2 ≤ hN p p2 - w ∧ w ≤ hN p p2 := by unfold hN; omega
theorem hN_le {p p1 p2 p3 : Nat} (h1 : p ≤ p1) (h2 : p2 ≤ p3) : hN p1 p2 ≤ hN p p3 := by unfold hN; omega
section CL2
variable {l : Launch} {E : EN} {w : CO} {wm : MO} {dm d : Nat} {al : Int32} {ch : Nat → Nat} {n hf : Nat} {s0 : MS} {x0 nw na K0 lo pc p o ca cap c gm p1 o1 ca1 cap1 c1 p2 o2 c2 K fl N q u u' r m : Nat} {vs vs1 : List Nat} {O O1 O2 : Nat → Od} {A A0 dA : List (Nat × Nat × Nat)} {B : List Tok} {dC : List CE} {X X1 X2 : List XE} {s s1 s2 : CS} {f f1 f2 : RH} {q1 q2 : Nat × Nat} {wg V cc e : Nat → Nat} {S L : Nat → Int32} {Q : KO → CS → RH → Prop}
/-- a token more; w: bytes that count -/
theorem pC.tok (h : pC l E w wm dm al ch n hf s0 x0 nw na lo pc p o ca cap c vs O A B X s f K fl N q u r gm wg q1 p1 o1 ca1 cap1 c1 vs1 O1 dC dA X1 s1 f1 m V S L cc e) (hc : cfP s1 s2) (hs : cSc ch n p2 o2 s2) (hx : XF l E wm dm al ch n hf s0 q1 ((p1, o1), vs1, O1, c1, B ++ dC.map toB, X1) q2 ((p2, o2), vs1, O1, c1, B ++ dC.map toB, X2)) (hp : p1 + u' ≤ p2) (hu : u' ≤ 1) : pC l E w wm dm al ch n hf s0 x0 nw na lo pc p o ca cap c vs O A B X s f K fl N q (u + u') r gm wg q2 p2 o2 ca1 cap1 c1 vs1 O1 dC dA X2 s2 f1 m V S L cc e := by
  obtain ⟨h1, h2, a1, a2, a3, capN, h3, h4, h5, h6, h7, h8, h9, h10⟩ := h
  have hpp := h1.2.2.2.2.2.1
  exact ⟨h1.tok hc hs hx (fun _ _ => rfl) (by omega) (Nat.le_refl _), h2, a1, a2, a3, capN, h3, h4.keep (gE.rf [] f1) (fun _ hx => absurd hx List.not_mem_nil) (fun _ hx => Or.inl hx) (fun _ _ => rfl) (fun _ he => he) (Nat.le_refl _) (hN_le (Nat.le_refl _) (by omega)), h5, by omega, by omega, by omega, by omega, h10⟩
/-- the model gives an order, with a token -/
theorem pC.clo {od : Od} (h : pC l E w wm dm al ch n hf s0 x0 nw na lo pc p o ca cap c vs O A B X s f K fl N q u r gm wg q1 p1 o1 ca1 cap1 c1 vs1 O1 dC dA X1 s1 f1 m V S L cc e) (hc : cfP s1 s2) (hs : cSc ch n p2 o2 s2) (hx : XF l E wm dm al ch n hf s0 q1 ((p1, o1), vs1, O1, c1, B ++ dC.map toB, X1) q2 ((p2, o2), vs1, oup O1 (4000 * (1 - hf) + c1) od, c1 + 1, B ++ dC.map toB, X2)) (hm : 1 ≤ m) (hp : p1 + u' ≤ p2) (hu : u' ≤ 1) : pC l E w wm dm al ch n hf s0 x0 nw na lo pc p o ca cap c vs O A B X s f K fl N q (u + u') (r + 1) gm wg q2 p2 o2 ca1 cap1 (c1 + 1) vs1 (oup O1 (4000 * (1 - hf) + c1) od) dC dA X2 s2 f1 m V S L (up cc m (4000 * (1 - hf) + (c1 + 1))) e := by
  obtain ⟨h1, h2, a1, a2, a3, capN, h3, h4, h5, h6, h7, h8, h9, h10⟩ := h
  have hpp := h1.2.2.2.2.2.1
  refine ⟨h1.tok hc hs hx (fun i hi => oup_ne _ _ (by omega)) (by omega) (by omega), h2, a1, a2, a3, capN, h3, ?_, h5, by omega, by omega, by omega, by omega, h10⟩
  exact (h4.keep (gE.rf [] f1) (fun _ hx => absurd hx List.not_mem_nil) (fun _ hx => Or.inl hx) (fun i hi => oup_ne _ _ (by omega)) (fun _ he => he) (Nat.le_refl _) (hN_le (Nat.le_refl _) (by omega))).bump hm (by omega)
theorem pC.ord {od : Od} (h : pC l E w wm dm al ch n hf s0 x0 nw na lo pc p o ca cap c vs O A B X s f K fl N q u r gm wg q1 p1 o1 ca1 cap1 c1 vs1 O1 dC dA X1 s1 f1 m V S L cc e) (hx : XF l E wm dm al ch n hf s0 q1 ((p1, o1), vs1, O1, c1, B ++ dC.map toB, X1) q2 ((p1, o1), vs1, oup O1 (4000 * (1 - hf) + c1) od, c1 + 1, B ++ dC.map toB, X2)) (hm : 1 ≤ m) : pC l E w wm dm al ch n hf s0 x0 nw na lo pc p o ca cap c vs O A B X s f K fl N q u (r + 1) gm wg q2 p1 o1 ca1 cap1 (c1 + 1) vs1 (oup O1 (4000 * (1 - hf) + c1) od) dC dA X2 s1 f1 m V S L (up cc m (4000 * (1 - hf) + (c1 + 1))) e :=
  h.clo (u' := 0) (cfP.rf _) h.1.1.2 hx hm (Nat.le_refl _) (Nat.zero_le _)
set_option maxHeartbeats 4000000 in
/-- a kid, added -/
theorem pC.kid (hst : l.stackTraces = false) {Rq : Nat × Nat → Tok → Prop} {v : Nat} {sg pl : Int32} (h : pC l E w wm dm al ch n hf s0 x0 nw na lo pc p o ca cap c vs O A B X s f K fl N q u r gm wg (0, 0) p1 o1 ca1 cap1 c1 vs1 O1 dC dA X1 s1 f1 m V S L cc e) (hi : pIn E w ch n x0 nw na K0 p o ca cap c vs A0 B X s f) (hw : p + 2 * wg m ≤ p1) (hmu : m ≤ u + 1) (hu1 : 1 ≤ u) (hm1 : 2 * m ≤ p1) (k : pOk l E w wm dm al ch n hf s0 x0 nw na p1 o1 ca1 cap1 c1 vs1 O1 (A ++ dA) (B ++ dC.map toB) X1 s1 f1 Rq gm v s2 f2)
    (hQ : ∀ f3 p2 vs2 O2 c2 dC2 dA2 ca2 cap2 q2, pC l E w wm dm al ch n hf s0 x0 nw na lo pc p o ca cap c vs O A B X s f K fl N q u r gm wg q2 p2 o1 ca2 cap2 c2 vs2 O2 (dC ++ dC2) (dA ++ dA2) X1 s2 f3 (m + 1) (up V m v) (up S m sg) (up L m pl) (up cc (m + 1) (4000 * (1 - hf) + c2)) (up e m (4000 * (1 - hf) + c2)) → Rq q2 (tk ch n p2) → f3.2.2.1 N = f1.2.2.1 N → (∀ i, i < 4000 * (1 - hf) + c1 → O2 i = O1 i) → (p1 < p2 ∧ c1 ≤ c2) → Q (.inl none) s2 f3) : oc f2 q 17 ∧ EvC l E w (d + 1) MX19_add [.ref q, .ref v, .int sg, .int pl] s2 f2 Q := by
  obtain ⟨h1, ⟨n1, n2, n3, n4, n5⟩, a1, a2, a3, capN, h3, h4, h5, h6, h7, h8, h9, h10⟩ := h
  obtain ⟨p2, vs2, O2, c2, dC2, dA2, ca2, cap2, q2, k1, k2, ⟨k3, k4, k5, k5', k6⟩, ⟨k7, k8, k9, k10, k11, k12⟩⟩ := h1.sub k
  have hnm := hi.nums
  have hr := hi.2.2.1
  have hl := h1.2.1.1.1
  have hl2 := k3.1
  have lx := hr.1.2.2.1
  have lw := hr.2.1.2.2.1
  have la := hr.2.2.1.2.2.1
  have r1 := h1.2.1.2.1
  obtain ⟨⟨b1, b2, b3, b4, b5⟩, ⟨b11, b12, b13, b14, b15, b16⟩, ⟨b21, b22, b23, b24, b25, b26⟩, ⟨b31, b32, b33, b34, b35, b36⟩, -⟩ := id h3
  have hp2 := k1.1.2.2.1.2.1
  have hpp := h1.2.2.2.2.2.1
  have hcap2 := k1.2.1.2.1.2.2.2.2.2.2.2.2.2.1
  have hK := hi.2.2.2.2.2.2.2
  have hK' := hi.2.2.2.2.2.2.1
  have hca : ∀ a, ¬ tg f1 a = some (.inr 8) → f.1 ≤ a → a ∉ [x0, nw, na, ca1] := by
    intro a ha1 ha2 z
    simp only [List.mem_cons, List.not_mem_nil, or_false] at z
    rcases z with z | z | z | z
    · omega
    · omega
    · omega
    · subst z; exact ha1 r1.2.2.2.2.1
  have t8 : ∀ a k, tg f1 a = some (.inl k) → ¬ tg f1 a = some (.inr 8) := fun a k z y => by rw [z] at y; cases y
  have t8' : ∀ a k, ¬ k = 8 → tg f1 a = some (.inr k) → ¬ tg f1 a = some (.inr 8) := fun a k hk z y => by rw [z] at y; injection y with y; injection y with y; exact hk y
  have mq := hca q (t8 q 17 b1.1) b4
  have mN := hca N (t8 N K n1.1) n3
  have ma1 := hca a1 (t8' a1 5 (by decide) b15) b14
  have ma2 := hca a2 (t8' a2 0 (by decide) b25) b24
  have ma3 := hca a3 (t8' a3 0 (by decide) b35) b34
  have hNs : NsB f2 f.1 q a1 a2 a3 capN m V S L := h3.keep k3 (fun a ha _ => ⟨fun z => mq (z ▸ ha), fun z => ma1 (z ▸ ha), fun z => ma2 (z ▸ ha), fun z => ma3 (z ▸ ha)⟩)
  refine ⟨hNs.1.1, C_add hst hNs k4 (by omega) (by omega) (by omega) (fun f3 d1 d2 d3 capN' j1 j2 j3 j4 j5 j6 j7 => ?_)⟩
  have cN2 : f2.2.2.1 N = f1.2.2.1 N := k3.ce n2 mN
  obtain ⟨e1, e2, e3, e4, e5, e6⟩ := hNs.ne
  have neq : ∀ a, a ∈ [q, a1, a2, a3] → ¬ a = N := by
    intro a ha z
    have tN := n1.1
    simp only [List.mem_cons, List.not_mem_nil, or_false] at ha
    rcases ha with y | y | y | y
    · rw [← z, y, b1.1] at tN; injection tN with tN; injection tN with tN; exact n5 tN.symm
    · rw [← z, y, b15] at tN; cases tN
    · rw [← z, y, b25] at tN; cases tN
    · rw [← z, y, b35] at tN; cases tN
  have cN3 : f3.2.2.1 N = f2.2.2.1 N := j2.ce (by omega) (fun z => neq N z rfl)
  have cN : f3.2.2.1 N = f1.2.2.1 N := cN3.trans cN2
  have o3 := ocE cN n1
  have hl3 := j2.1
  refine hQ f3 p2 vs2 O2 c2 dC2 dA2 ca2 cap2 q2 ⟨k1.heap hi j2 (fun a ha => Or.inr ?_), ⟨o3, by omega, n3, by rw [(cellE cN).2.2]; exact n4, n5⟩, d1, d2, d3, capN', j1, ?_, j1.1.2.2.2.2.2.2.2, by omega, by omega, by rw [List.length_append]; omega, by omega, h10⟩ k2 cN k5 ⟨k7, k8⟩
  · have g : f.1 ≤ a ∧ ¬ tg f2 a = some (.inr 8) ∧ ¬ tg f2 a = some (.inl 19) := by
      simp only [List.mem_cons, List.not_mem_nil, or_false] at ha
      obtain ⟨⟨c1, -⟩, ⟨-, -, -, -, c15, -⟩, ⟨-, -, -, -, c25, -⟩, ⟨-, -, -, -, c35, -⟩, -⟩ := hNs
      rcases ha with rfl | rfl | rfl | rfl
      · rw [c1.1]; exact ⟨b4, fun z => (by cases z), fun z => (by cases z)⟩
      · rw [c15]; exact ⟨b14, fun z => (by cases z), fun z => (by cases z)⟩
      · rw [c25]; exact ⟨b24, fun z => (by cases z), fun z => (by cases z)⟩
      · rw [c35]; exact ⟨b34, fun z => (by cases z), fun z => (by cases z)⟩
    exact ⟨g.1, g.2.1, Or.inr g.2.2⟩
  · have hh : hN p p1 ≤ hN p p2 := hN_le (Nat.le_refl _) (Nat.le_of_lt k7)
    have z1 : Ks f2 O2 (dC ++ dC2) f.1 [N, q, a1, a2, a3] vs2.length gm (hN p p2) wg m V cc e (4000 * (1 - hf) + c) (4000 * (1 - hf) + c1) := by
      refine h4.keep k3 (fun x hx => ?_) (fun x hx => Or.inl hx) k5 (fun e he => List.mem_append_left _ he) k5' hh
      simp only [List.mem_cons, List.not_mem_nil, or_false] at hx
      rcases hx with rfl | rfl | rfl | rfl
      · exact Or.inl lx
      · exact Or.inl lw
      · exact Or.inl la
      · exact Or.inr (Or.inr (Or.inr r1.2.2.2.2.1))
    have z2 : Kd f2 O2 (dC ++ dC2) f.1 [N, q, a1, a2, a3] vs2.length (4000 * (1 - hf) + c1) (4000 * (1 - hf) + c2) gm (hN p p2 - wg m) v := by
      refine ⟨f1.1, f2.1, hl, Nat.le_refl _, fun x hx => Or.inl ?_, (k6.keep (fun _ _ _ _ => rfl) (fun _ _ _ => rfl) (fun e he => List.mem_append_right _ he) (Nat.le_refl _)).mono (Nat.le_refl _) (hN_w hw (Nat.le_of_lt k7)).1⟩
      simp only [List.mem_cons, List.not_mem_nil, or_false] at hx
      rcases hx with rfl | rfl | rfl | rfl | rfl <;> assumption
    have hc1 := h1.2.2.2.2.2.2.1
    refine (z1.add (hN_w hw (Nat.le_of_lt k7)).2 (Nat.add_le_add_left k8 _) (Nat.add_le_add_left hc1 _) z2).keep j2 (fun x hx => Or.inr (Or.inl (List.mem_cons_of_mem _ hx))) (fun x hx => ?_) (fun _ _ => rfl) (fun _ he => he) (Nat.le_refl _) (Nat.le_refl _)
    simp only [List.mem_cons, List.not_mem_nil, or_false] at hx ⊢
    rcases hx with rfl | rfl | rfl | rfl | rfl
    · exact Or.inl (Or.inl rfl)
    · exact Or.inl (Or.inr (Or.inl rfl))
    · rcases j3 with y | y
      · exact Or.inl (Or.inr (Or.inr (Or.inl y)))
      · exact Or.inr y
    · rcases j4 with y | y
      · exact Or.inl (Or.inr (Or.inr (Or.inr (Or.inl y))))
      · exact Or.inr y
    · rcases j5 with y | y
      · exact Or.inl (Or.inr (Or.inr (Or.inr (Or.inr y))))
      · exact Or.inr y
end CL2
