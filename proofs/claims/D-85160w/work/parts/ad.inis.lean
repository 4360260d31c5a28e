/-! NODES WITH PARTS: their making; the begin of collecting -/
theorem vl_new (f : RH) (k j : Nat) : vl (fnew f k) f.1 j = defaultValue (FY j) := by
  obtain ⟨a, b, c⟩ := cellv (cell_push f (.inl k, 0, fun j => defaultValue (FY j)) (CZ k))
  exact c j
section IN
variable {l : Launch} {E : EN} {w : CO} {d : Nat} {s : CS} {f : RH} {Q : KO → CS → RH → Prop} {lo N : Nat}
theorem I_lit (hst : l.stackTraces = false) (hN : oc f N 16) (h1 : N < f.1) (h2 : f.2.2.2 ≤ N) (hlo : lo ≤ f.1) (hroom : f.2.1 + 14 ≤ BM) (hQ : ∀ f' q a1 a2 a3, NsB f' lo q a1 a2 a3 2 0 (fun _ => 0) (fun _ => 0) (fun _ => 0) → gE [N] f f' → oc f' N 16 → vl f' N 167 = .ref q → (∀ j, ¬ j = 167 → vl f' N j = vl f N j) → f'.2.1 = f.2.1 + 14 → Q (.inl none) s f') : EvC l E w (d + 1) MX18_init [.ref N] s f Q := by
  refine eX18_init hst (eX16_init hst ⟨rfl, by unfold rmF; omega, fun q g1 eq e1 => ?_⟩)
  subst eq
  have z1 : g1.1 = f.1 + 1 ∧ g1.2.1 = f.2.1 + 5 := by rw [e1]; exact ⟨rfl, rfl⟩
  have G1 : gE [] f g1 := by rw [e1]; exact gE.new _ _
  have o1 : oc g1 f.1 17 := by rw [e1]; exact oc_new _ _
  have v1 : vl g1 f.1 171 = .int 0 := by rw [e1]; exact vl_new _ _ _
  refine C_nsInit (lo := lo) hst o1 (by omega) (by rw [G1.2.1]; omega) v1 (by omega) (by omega) (fun g2 hn G2 z2 z2' => ⟨rfl, ?_⟩)
  have G02 : gE [] f g2 := G1.own G2 (Nat.le_refl _)
  have c2 : g2.2.2.1 N = f.2.2.1 N := G02.ce h1 List.not_mem_nil
  have o2 := ocE c2 hN
  refine ⟨o2, by rw [G02.2.1]; exact h2, fun g3 e3 => ?_⟩
  have G3 : gE [N] g2 g3 := by rw [e3]; exact gE.set _ _ _
  have o3 : oc g3 N 16 := by rw [e3]; exact set_oc o2
  have w3 : vl g3 N 167 = .ref f.1 := by rw [e3]; exact set_vl o2.1
  have k3 : ∀ j, ¬ j = 167 → vl g3 N j = vl f N j := fun j hj => by rw [e3]; exact (set_vn o2.1 hj).trans (by rw [(cellE c2).2.2])
  have n3 := hn.keep G3 (fun a ha _ => by have := List.mem_singleton.mp ha; omega)
  refine hQ g3 f.1 _ _ _ n3 ((G02.mono (fun a ha => absurd ha List.not_mem_nil)).trans G3 (fun a ha => Or.inl ha)) o3 w3 k3 ?_
  rw [e3]; show g2.2.1 = _; omega
theorem I_bi (hst : l.stackTraces = false) {xv : Int32} (hN : oc f N 18) (h1 : N < f.1) (h2 : f.2.2.2 ≤ N) (hlo : lo ≤ f.1) (hroom : f.2.1 + 14 ≤ BM) (hQ : ∀ f' q a1 a2 a3, NsB f' lo q a1 a2 a3 2 0 (fun _ => 0) (fun _ => 0) (fun _ => 0) → gE [N] f f' → oc f' N 18 → vl f' N 173 = .ref q → vl f' N 172 = .int xv → (∀ j, ¬ j = 173 → ¬ j = 172 → vl f' N j = vl f N j) → f'.2.1 = f.2.1 + 14 → Q (.inl none) s f') : EvC l E w (d + 1) MX20_init [.ref N, .int xv] s f Q := by
  refine eX20_init hst (eX16_init hst ⟨rfl, by unfold rmF; omega, fun q g1 eq e1 => ?_⟩)
  subst eq
  have z1 : g1.1 = f.1 + 1 ∧ g1.2.1 = f.2.1 + 5 := by rw [e1]; exact ⟨rfl, rfl⟩
  have G1 : gE [] f g1 := by rw [e1]; exact gE.new _ _
  have o1 : oc g1 f.1 17 := by rw [e1]; exact oc_new _ _
  have v1 : vl g1 f.1 171 = .int 0 := by rw [e1]; exact vl_new _ _ _
  refine C_nsInit (lo := lo) hst o1 (by omega) (by rw [G1.2.1]; omega) v1 (by omega) (by omega) (fun g2 hn G2 z2 z2' => ⟨rfl, ?_⟩)
  have G02 : gE [] f g2 := G1.own G2 (Nat.le_refl _)
  have c2 : g2.2.2.1 N = f.2.2.1 N := G02.ce h1 List.not_mem_nil
  have o2 := ocE c2 hN
  refine ⟨o2, by rw [G02.2.1]; exact h2, fun g3 e3 => ?_⟩
  have G3 : gE [N] g2 g3 := by rw [e3]; exact gE.set _ _ _
  have o3 : oc g3 N 18 := by rw [e3]; exact set_oc o2
  have w3 : vl g3 N 173 = .ref f.1 := by rw [e3]; exact set_vl o2.1
  have k3 : ∀ j, ¬ j = 173 → vl g3 N j = vl f N j := fun j hj => by rw [e3]; exact (set_vn o2.1 hj).trans (by rw [(cellE c2).2.2])
  have n3 := hn.keep G3 (fun a ha _ => by have := List.mem_singleton.mp ha; omega)
  refine ⟨o3, by rw [G3.2.1, G02.2.1]; exact h2, fun g4 e4 => ?_⟩
  have G4 : gE [N] g3 g4 := by rw [e4]; exact gE.set _ _ _
  have o4 : oc g4 N 18 := by rw [e4]; exact set_oc o3
  refine hQ g4 f.1 _ _ _ (n3.keep G4 (fun a ha _ => by have := List.mem_singleton.mp ha; have := G3.1; omega)) (((G02.mono (fun a ha => absurd ha List.not_mem_nil)).trans G3 (fun a ha => Or.inl ha)).trans G4 (fun a ha => Or.inl ha)) o4 (by rw [e4]; exact (set_vn o3.1 (by decide)).trans w3) (by rw [e4]; exact set_vl o3.1) (fun j hj hj' => by rw [e4]; exact (set_vn o3.1 hj').trans (k3 j hj)) ?_
  rw [e4, e3]; show g2.2.1 = _; omega
theorem I_call (hst : l.stackTraces = false) {xv : Int32} (hN : oc f N 19) (h1 : N < f.1) (h2 : f.2.2.2 ≤ N) (hlo : lo ≤ f.1) (hroom : f.2.1 + 14 ≤ BM) (hQ : ∀ f' q a1 a2 a3, NsB f' lo q a1 a2 a3 2 0 (fun _ => 0) (fun _ => 0) (fun _ => 0) → gE [N] f f' → oc f' N 19 → vl f' N 179 = .ref q → vl f' N 174 = .int xv → (∀ j, ¬ j = 179 → ¬ j = 174 → vl f' N j = vl f N j) → f'.2.1 = f.2.1 + 14 → Q (.inl none) s f') : EvC l E w (d + 1) MX21_init [.ref N, .int xv] s f Q := by
  refine eX21_init hst (eX16_init hst ⟨rfl, by unfold rmF; omega, fun q g1 eq e1 => ?_⟩)
  subst eq
  have z1 : g1.1 = f.1 + 1 ∧ g1.2.1 = f.2.1 + 5 := by rw [e1]; exact ⟨rfl, rfl⟩
  have G1 : gE [] f g1 := by rw [e1]; exact gE.new _ _
  have o1 : oc g1 f.1 17 := by rw [e1]; exact oc_new _ _
  have v1 : vl g1 f.1 171 = .int 0 := by rw [e1]; exact vl_new _ _ _
  refine C_nsInit (lo := lo) hst o1 (by omega) (by rw [G1.2.1]; omega) v1 (by omega) (by omega) (fun g2 hn G2 z2 z2' => ⟨rfl, ?_⟩)
  have G02 : gE [] f g2 := G1.own G2 (Nat.le_refl _)
  have c2 : g2.2.2.1 N = f.2.2.1 N := G02.ce h1 List.not_mem_nil
  have o2 := ocE c2 hN
  refine ⟨o2, by rw [G02.2.1]; exact h2, fun g3 e3 => ?_⟩
  have G3 : gE [N] g2 g3 := by rw [e3]; exact gE.set _ _ _
  have o3 : oc g3 N 19 := by rw [e3]; exact set_oc o2
  have w3 : vl g3 N 179 = .ref f.1 := by rw [e3]; exact set_vl o2.1
  have k3 : ∀ j, ¬ j = 179 → vl g3 N j = vl f N j := fun j hj => by rw [e3]; exact (set_vn o2.1 hj).trans (by rw [(cellE c2).2.2])
  have n3 := hn.keep G3 (fun a ha _ => by have := List.mem_singleton.mp ha; omega)
  refine ⟨o3, by rw [G3.2.1, G02.2.1]; exact h2, fun g4 e4 => ?_⟩
  have G4 : gE [N] g3 g4 := by rw [e4]; exact gE.set _ _ _
  have o4 : oc g4 N 19 := by rw [e4]; exact set_oc o3
  refine hQ g4 f.1 _ _ _ (n3.keep G4 (fun a ha _ => by have := List.mem_singleton.mp ha; have := G3.1; omega)) (((G02.mono (fun a ha => absurd ha List.not_mem_nil)).trans G3 (fun a ha => Or.inl ha)).trans G4 (fun a ha => Or.inl ha)) o4 (by rw [e4]; exact (set_vn o3.1 (by decide)).trans w3) (by rw [e4]; exact set_vl o3.1) (fun j hj hj' => by rw [e4]; exact (set_vn o3.1 hj').trans (k3 j hj)) ?_
  rw [e4, e3]; show g2.2.1 = _; omega
theorem I_pla (hst : l.stackTraces = false) (hN : oc f N 21) (h1 : N < f.1) (h2 : f.2.2.2 ≤ N) (hlo : lo ≤ f.1) (hroom : f.2.1 + 14 ≤ BM) (hQ : ∀ f' q a1 a2 a3, NsB f' lo q a1 a2 a3 2 0 (fun _ => 0) (fun _ => 0) (fun _ => 0) → gE [N] f f' → oc f' N 21 → vl f' N 181 = .ref q → (∀ j, ¬ j = 181 → vl f' N j = vl f N j) → f'.2.1 = f.2.1 + 14 → Q (.inl none) s f') : EvC l E w (d + 1) MX23_init [.ref N] s f Q := by
  refine eX23_init hst (eX16_init hst ⟨rfl, by unfold rmF; omega, fun q g1 eq e1 => ?_⟩)
  subst eq
  have z1 : g1.1 = f.1 + 1 ∧ g1.2.1 = f.2.1 + 5 := by rw [e1]; exact ⟨rfl, rfl⟩
  have G1 : gE [] f g1 := by rw [e1]; exact gE.new _ _
  have o1 : oc g1 f.1 17 := by rw [e1]; exact oc_new _ _
  have v1 : vl g1 f.1 171 = .int 0 := by rw [e1]; exact vl_new _ _ _
  refine C_nsInit (lo := lo) hst o1 (by omega) (by rw [G1.2.1]; omega) v1 (by omega) (by omega) (fun g2 hn G2 z2 z2' => ⟨rfl, ?_⟩)
  have G02 : gE [] f g2 := G1.own G2 (Nat.le_refl _)
  have c2 : g2.2.2.1 N = f.2.2.1 N := G02.ce h1 List.not_mem_nil
  have o2 := ocE c2 hN
  refine ⟨o2, by rw [G02.2.1]; exact h2, fun g3 e3 => ?_⟩
  have G3 : gE [N] g2 g3 := by rw [e3]; exact gE.set _ _ _
  have o3 : oc g3 N 21 := by rw [e3]; exact set_oc o2
  have w3 : vl g3 N 181 = .ref f.1 := by rw [e3]; exact set_vl o2.1
  have k3 : ∀ j, ¬ j = 181 → vl g3 N j = vl f N j := fun j hj => by rw [e3]; exact (set_vn o2.1 hj).trans (by rw [(cellE c2).2.2])
  have n3 := hn.keep G3 (fun a ha _ => by have := List.mem_singleton.mp ha; omega)
  refine hQ g3 f.1 _ _ _ n3 ((G02.mono (fun a ha => absurd ha List.not_mem_nil)).trans G3 (fun a ha => Or.inl ha)) o3 w3 k3 ?_
  rw [e3]; show g2.2.1 = _; omega
theorem I_cha (hst : l.stackTraces = false) (hN : oc f N 23) (h1 : N < f.1) (h2 : f.2.2.2 ≤ N) (hlo : lo ≤ f.1) (hroom : f.2.1 + 14 ≤ BM) (hQ : ∀ f' q a1 a2 a3, NsB f' lo q a1 a2 a3 2 0 (fun _ => 0) (fun _ => 0) (fun _ => 0) → gE [N] f f' → oc f' N 23 → vl f' N 184 = .ref q → (∀ j, ¬ j = 184 → vl f' N j = vl f N j) → f'.2.1 = f.2.1 + 14 → Q (.inl none) s f') : EvC l E w (d + 1) MX25_init [.ref N] s f Q := by
  refine eX25_init hst (eX16_init hst ⟨rfl, by unfold rmF; omega, fun q g1 eq e1 => ?_⟩)
  subst eq
  have z1 : g1.1 = f.1 + 1 ∧ g1.2.1 = f.2.1 + 5 := by rw [e1]; exact ⟨rfl, rfl⟩
  have G1 : gE [] f g1 := by rw [e1]; exact gE.new _ _
  have o1 : oc g1 f.1 17 := by rw [e1]; exact oc_new _ _
  have v1 : vl g1 f.1 171 = .int 0 := by rw [e1]; exact vl_new _ _ _
  refine C_nsInit (lo := lo) hst o1 (by omega) (by rw [G1.2.1]; omega) v1 (by omega) (by omega) (fun g2 hn G2 z2 z2' => ⟨rfl, ?_⟩)
  have G02 : gE [] f g2 := G1.own G2 (Nat.le_refl _)
  have c2 : g2.2.2.1 N = f.2.2.1 N := G02.ce h1 List.not_mem_nil
  have o2 := ocE c2 hN
  refine ⟨o2, by rw [G02.2.1]; exact h2, fun g3 e3 => ?_⟩
  have G3 : gE [N] g2 g3 := by rw [e3]; exact gE.set _ _ _
  have o3 : oc g3 N 23 := by rw [e3]; exact set_oc o2
  have w3 : vl g3 N 184 = .ref f.1 := by rw [e3]; exact set_vl o2.1
  have k3 : ∀ j, ¬ j = 184 → vl g3 N j = vl f N j := fun j hj => by rw [e3]; exact (set_vn o2.1 hj).trans (by rw [(cellE c2).2.2])
  have n3 := hn.keep G3 (fun a ha _ => by have := List.mem_singleton.mp ha; omega)
  refine hQ g3 f.1 _ _ _ n3 ((G02.mono (fun a ha => absurd ha List.not_mem_nil)).trans G3 (fun a ha => Or.inl ha)) o3 w3 k3 ?_
  rw [e3]; show g2.2.1 = _; omega
end IN
section ST
variable {l : Launch} {E : EN} {w : CO} {wm : MO} {dm d : Nat} {al : Int32} {ch : Nat → Nat} {n hf : Nat} {s0 : MS} {x0 nw na K0 lo pc p o ca cap c gm p1 o1 ca1 cap1 c1 p2 o2 c2 K fl N q u r m : Nat} {vs vs1 : List Nat} {O O1 O2 : Nat → Od} {A A0 dA : List (Nat × Nat × Nat)} {B : List Tok} {dC : List CE} {X X1 X2 : List XE} {s s1 s2 : CS} {f f1 f2 : RH} {q1 q2 : Nat × Nat} {wg V cc e : Nat → Nat} {S L : Nat → Int32} {Q : KO → CS → RH → Prop}
/-- nothing collected yet -/
theorem pC.start {a1 a2 a3 : Nat} (h : pM l E w wm dm al ch n hf s0 x0 nw na lo pc p o ca cap c vs O A B X s f q1 p1 o1 ca1 cap1 c vs1 O1 dC dA X1 s1 f1) (hN : oc f1 N K ∧ N < f1.1 ∧ f.1 ≤ N ∧ vl f1 N fl = .ref q ∧ ¬ K = 17) (hn : NsB f1 f.1 q a1 a2 a3 2 0 V S L) (hnum : f1.2.1 + 2 * cap + 100 * u ≤ f.2.1 + 2 * cap1 + 100 * (p1 - p) + 22 ∧ p + u ≤ p1 ∧ 2 * dC.length + p + u ≤ p1 ∧ n ≤ 1260) : pC l E w wm dm al ch n hf s0 x0 nw na lo pc p o ca cap c vs O A B X s f K fl N q u 0 gm wg q1 p1 o1 ca1 cap1 c vs1 O1 dC dA X1 s1 f1 0 V S L (fun _ => 4000 * (1 - hf) + c) (fun _ => 0) :=
  ⟨h, hN, a1, a2, a3, 2, hn, ⟨rfl, rfl, fun k hk => absurd hk (Nat.not_lt_zero _)⟩, by omega, by omega, by omega, by omega, by omega, hnum.2.2.2⟩
/-- the first was there before the node -/
theorem pC.first (hst : l.stackTraces = false) {a1 a2 a3 v : Nat} {sg pl : Int32} (h : pM l E w wm dm al ch n hf s0 x0 nw na lo pc p o ca cap c vs O A B X s f q1 p1 o1 ca1 cap1 c1 vs1 O1 dC dA X1 s1 f1) (hi : pIn E w ch n x0 nw na K0 p o ca cap c vs A0 B X s f) (hv : nd f1 v) (hk : Rp f1 O1 dC f.1 f1.1 vs1.length (4000 * (1 - hf) + c) (4000 * (1 - hf) + c1) gm (hN p p1) (.ref v)) (hg : gE [] f1 f2) (hN : oc f2 N K ∧ N < f2.1 ∧ f1.1 ≤ N ∧ vl f2 N fl = .ref q ∧ ¬ K = 17) (hn : NsB f2 f1.1 q a1 a2 a3 2 0 V S L) (hw : wg 0 = 0) (hnum : f2.2.1 + 2 * cap ≤ f.2.1 + 2 * cap1 + 100 * (p1 - p) + 22 ∧ c1 + 3 * p ≤ c + 3 * p1 ∧ 2 * dC.length + p ≤ p1)
    (hQ : ∀ f3, pC l E w wm dm al ch n hf s0 x0 nw na lo pc p o ca cap c vs O A B X s f K fl N q 0 0 gm wg q1 p1 o1 ca1 cap1 c1 vs1 O1 dC dA X1 s1 f3 1 (up V 0 v) (up S 0 sg) (up L 0 pl) (up (fun _ => 4000 * (1 - hf) + c) 1 (4000 * (1 - hf) + c1)) (up (fun _ => 0) 0 (4000 * (1 - hf) + c1)) → f3.2.2.1 N = f2.2.2.1 N → Q (.inl none) s1 f3) : oc f2 q 17 ∧ EvC l E w (d + 1) MX19_add [.ref q, .ref v, .int sg, .int pl] s1 f2 Q := by
  have hl := h.2.1.1.1
  have hl2 := hg.1
  have hnm := hi.nums
  have hK := hi.2.2.2.2.2.2.2
  have hK' := hi.2.2.2.2.2.2.1
  have hcap := h.2.1.2.1.2.2.2.2.2.2.2.2.2.1
  have hpp := h.2.2.2.2.2.1
  have hpn := h.1.2.2.1.2.1
  have h1260 := hi.2.2.2.2.1.1
  obtain ⟨n1, n2, n3, n4, n5⟩ := hN
  obtain ⟨⟨b1, b2, b3, b4, b5⟩, ⟨b11, b12, b13, b14, b15, b16⟩, ⟨b21, b22, b23, b24, b25, b26⟩, ⟨b31, b32, b33, b34, b35, b36⟩, -⟩ := id hn
  refine ⟨b1, C_add hst hn (hv.keep hg) (by omega) (by omega) (by omega) (fun f3 d1 d2 d3 capN' j1 j2 j3 j4 j5 j6 j7 => ?_)⟩
  have neq : N ∉ [q, a1, a2, a3] := by
    intro ha
    have tN := n1.1
    simp only [List.mem_cons, List.not_mem_nil, or_false] at ha
    rcases ha with y | y | y | y
    · rw [y, b1.1] at tN; injection tN with tN; injection tN with tN; exact n5 tN.symm
    · rw [y, b15] at tN; cases tN
    · rw [y, b25] at tN; cases tN
    · rw [y, b35] at tN; cases tN
  have cN : f3.2.2.1 N = f2.2.2.1 N := j2.ce (by omega) neq
  have hl3 := j2.1
  have hd : f1.1 ≤ d1 ∧ f1.1 ≤ d2 ∧ f1.1 ≤ d3 := by omega
  have M2 := h.heap hi hg (fun a ha => absurd ha List.not_mem_nil)
  have lo1 : ∀ {f : RH} {b q a1 a2 a3 cap m : Nat} {V : Nat → Nat} {S L : Nat → Int32} (b' : Nat), NsB f b q a1 a2 a3 cap m V S L → b' ≤ b → NsB f b' q a1 a2 a3 cap m V S L := by
    intro f b q a1 a2 a3 cap m V S L b' hh hb
    obtain ⟨⟨h1, h2, h3, h4, h5⟩, ⟨i1, i2, i3, i4, i5⟩, ⟨j1, j2, j3, j4, j5⟩, ⟨k1, k2, k3, k4, k5⟩, r⟩ := hh
    exact ⟨⟨h1, h2, h3, by omega, h5⟩, ⟨i1, i2, i3, by omega, i5⟩, ⟨j1, j2, j3, by omega, j5⟩, ⟨k1, k2, k3, by omega, k5⟩, r⟩
  refine hQ f3 ⟨M2.heap hi j2 (fun a ha => Or.inr ?_), ⟨ocE cN n1, by omega, by omega, by rw [(cellE cN).2.2]; exact n4, n5⟩, d1, d2, d3, capN', lo1 f.1 j1 hl, ?_, j1.1.2.2.2.2.2.2.2, by omega, by omega, by omega, by omega, h1260⟩ cN
  · have g : f.1 ≤ a ∧ ¬ tg f2 a = some (.inr 8) ∧ ¬ tg f2 a = some (.inl 19) := by
      simp only [List.mem_cons, List.not_mem_nil, or_false] at ha
      rcases ha with rfl | rfl | rfl | rfl
      · rw [b1.1]; exact ⟨by omega, fun z => (by cases z), fun z => (by cases z)⟩
      · rw [b15]; exact ⟨by omega, fun z => (by cases z), fun z => (by cases z)⟩
      · rw [b25]; exact ⟨by omega, fun z => (by cases z), fun z => (by cases z)⟩
      · rw [b35]; exact ⟨by omega, fun z => (by cases z), fun z => (by cases z)⟩
    exact ⟨g.1, g.2.1, Or.inr g.2.2⟩
  · have z0 : Ks f1 O1 dC f.1 [N, q, a1, a2, a3] vs1.length gm (hN p p1) wg 0 V (fun _ => 4000 * (1 - hf) + c) (fun _ => 0) (4000 * (1 - hf) + c) (4000 * (1 - hf) + c) := ⟨rfl, rfl, fun k hk => absurd hk (Nat.not_lt_zero _)⟩
    have z1 : Kd f1 O1 dC f.1 [N, q, a1, a2, a3] vs1.length (4000 * (1 - hf) + c) (4000 * (1 - hf) + c1) gm (hN p p1 - wg 0) v := by
      refine ⟨f.1, f1.1, Nat.le_refl _, Nat.le_refl _, fun x hx => Or.inr ?_, by rw [hw, Nat.sub_zero]; exact hk⟩
      simp only [List.mem_cons, List.not_mem_nil, or_false] at hx
      rcases hx with rfl | rfl | rfl | rfl | rfl <;> assumption
    have z2 := (z0.add (by rw [hw]; exact Nat.zero_le _) (Nat.add_le_add_left h.2.2.2.2.2.2.1 _) (Nat.le_refl _) z1).keep (D2 := [N, q, a1, a2, a3]) hg (fun x hx => absurd hx List.not_mem_nil) (fun x hx => Or.inl hx) (fun _ _ => rfl) (fun _ he => he) (Nat.le_refl _) (Nat.le_refl _)
    refine z2.keep j2 (fun x hx => Or.inr (Or.inl (List.mem_cons_of_mem _ hx))) (fun x hx => ?_) (fun _ _ => rfl) (fun _ he => he) (Nat.le_refl _) (Nat.le_refl _)
    simp only [List.mem_cons, List.not_mem_nil, or_false] at hx ⊢
    rcases hx with rfl | rfl | rfl | rfl | rfl
    · exact Or.inl (Or.inl rfl)
    · exact Or.inl (Or.inr (Or.inl rfl))
    · rcases j3 with y | y
      · exact Or.inl (Or.inr (Or.inr (Or.inl y)))
      · exact Or.inr y
    · rcases j4 with y | y
      · exact Or.inl (Or.inr (Or.inr (Or.inr (Or.inl y))))
      · exact Or.inr y
    · rcases j5 with y | y
      · exact Or.inl (Or.inr (Or.inr (Or.inr (Or.inr y))))
      · exact Or.inr y
end ST
