/-! ASSIGNMENTS -/
section AS9
variable {l : Launch} {E : EN} {w : CO} {wm : MO} {dt d : Nat} {ch : Nat → Nat} {n hf : Nat} {x0 nw na K0 p o ca cap c u z r p1 o1 ca1 cap1 c1 p2 c2 N k m : Nat} {vs vs1 : List Nat} {O O1 O2 : Nat → Od} {A dA : List (Nat × Nat × Nat)} {B B1 : List Tok} {dC : List CE} {s s1 s2 : CS} {f f1 f2 : RH} {Q : KO → CS → RH → Prop}
theorem put_full (hst : l.stackTraces = false) {s00 : MS} {bk : BE} {Bl : List BE} {Fn : List FE} (h1 : (tk ch n p).1 = 1) (hk : kw (tk ch n p) = 41) (hcl : ¬ bt ch n (sk ch n (tk ch n p).2.2.2) = 40) (hc : c < 3850) (hbl : Bl.length + 1 ≤ o) (ho : o ≤ 10) (hf' : ¬ (1 ≤ (tk ch n p).2.2.1 ∧ (tk ch n p).2.2.1 ≤ 8) ∧ nix vs (tk ch n p).2.2.1 = 14) : TBt l E wm dt ch n hf s00 (((p, o), vs, O, c, B), bk :: Bl, Fn) 3 (tk ch n p).2.1 := by
  intro Q hQ s hs
  exact T_put (sd := ms0) hst hs h1 hk hcl hc (by omega) rfl rfl rfl (fun _ => hQ) (fun z => absurd hf' z) (fun z => absurd hf' z)
theorem put_b1 (hst : l.stackTraces = false) {s00 : MS} {bk : BE} {Bl : List BE} {Fn : List FE} (h1 : (tk ch n p).1 = 1) (hk : kw (tk ch n p) = 41) (hcl : ¬ bt ch n (sk ch n (tk ch n p).2.2.2) = 40) (hc : c < 3850) (hbl : Bl.length + 1 ≤ o) (ho : o ≤ 10) (hnf : ¬ (¬ (1 ≤ (tk ch n p).2.2.1 ∧ (tk ch n p).2.2.1 ≤ 8) ∧ nix vs (tk ch n p).2.2.1 = 14)) (h91 : ¬ ((tk ch n (tk ch n p).2.2.2).1 = 3 ∧ (tk ch n (tk ch n p).2.2.2).2.2.1 = 91)) {kk pl : Nat} (h : PeBad l E wm dt ch n hf o 61 59 o (tk ch n p).2.2.2 (nmV vs (tk ch n p).2.2.1) (oup O (4000 * (1 - hf) + c) (1, 0, 0, 0, nI (tk ch n p).2.1)) (c + 1) B kk pl) : TBt l E wm dt ch n hf s00 (((p, o), vs, O, c, B), bk :: Bl, Fn) kk pl := by
  intro Q hQ s hs
  exact T_put (sd := ms0) hst hs h1 hk hcl hc (by omega) rfl rfl rfl (fun z => absurd z hnf) (fun _ _ => eqR_bad h hQ) (fun _ z1 z2 => absurd ⟨z1, z2⟩ h91)
theorem put_b2 (hst : l.stackTraces = false) {s00 : MS} {bk : BE} {Bl : List BE} {Fn : List FE} (h1 : (tk ch n p).1 = 1) (hk : kw (tk ch n p) = 41) (hcl : ¬ bt ch n (sk ch n (tk ch n p).2.2.2) = 40) (hc : c < 3850) (hbl : Bl.length + 1 ≤ o) (ho : o ≤ 10) (hnf : ¬ (¬ (1 ≤ (tk ch n p).2.2.1 ∧ (tk ch n p).2.2.1 ≤ 8) ∧ nix vs (tk ch n p).2.2.1 = 14)) (h91 : (tk ch n (tk ch n p).2.2.2).1 = 3 ∧ (tk ch n (tk ch n p).2.2.2).2.2.1 = 91) {kk pl : Nat} (h : PeBad l E wm dt ch n hf o 91 93 (o + 1) (tk ch n p).2.2.2 (nmV vs (tk ch n p).2.2.1) (oup O (4000 * (1 - hf) + c) (1, 0, 0, 0, nI (tk ch n p).2.1)) (c + 1) B kk pl) : TBt l E wm dt ch n hf s00 (((p, o), vs, O, c, B), bk :: Bl, Fn) kk pl := by
  intro Q hQ s hs
  exact T_put (sd := ms0) hst hs h1 hk hcl hc (by omega) rfl rfl rfl (fun z => absurd z hnf) (fun _ z => absurd h91 z) (fun _ _ _ => ixR_bad h91 h hQ)
theorem put_b3 (hst : l.stackTraces = false) {s00 : MS} {bk : BE} {Bl : List BE} {Fn : List FE} (h1 : (tk ch n p).1 = 1) (hk : kw (tk ch n p) = 41) (hcl : ¬ bt ch n (sk ch n (tk ch n p).2.2.2) = 40) (hc : c < 3850) (hbl : Bl.length + 1 ≤ o) (ho : o ≤ 10) (hnf : ¬ (¬ (1 ≤ (tk ch n p).2.2.1 ∧ (tk ch n p).2.2.1 ≤ 8) ∧ nix vs (tk ch n p).2.2.1 = 14)) (h91 : (tk ch n (tk ch n p).2.2.2).1 = 3 ∧ (tk ch n (tk ch n p).2.2.2).2.2.1 = 91) {kk pl : Nat} (h : PeOk l E wm dt ch n hf o 91 93 (o + 1) (tk ch n p).2.2.2 (nmV vs (tk ch n p).2.2.1) (oup O (4000 * (1 - hf) + c) (1, 0, 0, 0, nI (tk ch n p).2.1)) (c + 1) B p2 vs1 O1 c1 B1) (h92 : ¬ ((tk ch n p2).1 = 3 ∧ (tk ch n p2).2.2.1 = 91)) (h' : PeBad l E wm dt ch n hf o 61 59 o p2 vs1 O1 c1 B1 kk pl) : TBt l E wm dt ch n hf s00 (((p, o), vs, O, c, B), bk :: Bl, Fn) kk pl := by
  intro Q hQ s hs
  exact T_put (sd := ms0) hst hs h1 hk hcl hc (by omega) rfl rfl rfl (fun z => absurd z hnf) (fun _ z => absurd h91 z) (fun _ _ _ => ixR_ok h ⟨fun _ => eqR_bad h' hQ, fun z1 z2 => absurd ⟨z1, z2⟩ h92⟩)
theorem put_b4 (hst : l.stackTraces = false) {s00 : MS} {bk : BE} {Bl : List BE} {Fn : List FE} (h1 : (tk ch n p).1 = 1) (hk : kw (tk ch n p) = 41) (hcl : ¬ bt ch n (sk ch n (tk ch n p).2.2.2) = 40) (hc : c < 3850) (hbl : Bl.length + 1 ≤ o) (ho : o ≤ 10) (hnf : ¬ (¬ (1 ≤ (tk ch n p).2.2.1 ∧ (tk ch n p).2.2.1 ≤ 8) ∧ nix vs (tk ch n p).2.2.1 = 14)) (h91 : (tk ch n (tk ch n p).2.2.2).1 = 3 ∧ (tk ch n (tk ch n p).2.2.2).2.2.1 = 91) {kk pl : Nat} (h : PeOk l E wm dt ch n hf o 91 93 (o + 1) (tk ch n p).2.2.2 (nmV vs (tk ch n p).2.2.1) (oup O (4000 * (1 - hf) + c) (1, 0, 0, 0, nI (tk ch n p).2.1)) (c + 1) B p2 vs1 O1 c1 B1) (h92 : (tk ch n p2).1 = 3 ∧ (tk ch n p2).2.2.1 = 91) (h' : PeBad l E wm dt ch n hf o 91 93 (o + 1) p2 vs1 O1 c1 B1 kk pl) : TBt l E wm dt ch n hf s00 (((p, o), vs, O, c, B), bk :: Bl, Fn) kk pl := by
  intro Q hQ s hs
  exact T_put (sd := ms0) hst hs h1 hk hcl hc (by omega) rfl rfl rfl (fun z => absurd z hnf) (fun _ z => absurd h91 z) (fun _ _ _ => ixR_ok h ⟨fun z => absurd h92 z, fun _ _ => ixR_bad h92 h' hQ⟩)
theorem put_b5 (hst : l.stackTraces = false) {s00 : MS} {bk : BE} {Bl : List BE} {Fn : List FE} (h1 : (tk ch n p).1 = 1) (hk : kw (tk ch n p) = 41) (hcl : ¬ bt ch n (sk ch n (tk ch n p).2.2.2) = 40) (hc : c < 3850) (hbl : Bl.length + 1 ≤ o) (ho : o ≤ 10) (hnf : ¬ (¬ (1 ≤ (tk ch n p).2.2.1 ∧ (tk ch n p).2.2.1 ≤ 8) ∧ nix vs (tk ch n p).2.2.1 = 14)) (h91 : (tk ch n (tk ch n p).2.2.2).1 = 3 ∧ (tk ch n (tk ch n p).2.2.2).2.2.1 = 91) {kk pl p3 c3 : Nat} {vs3 : List Nat} {O3 : Nat → Od} {B3 : List Tok} (h : PeOk l E wm dt ch n hf o 91 93 (o + 1) (tk ch n p).2.2.2 (nmV vs (tk ch n p).2.2.1) (oup O (4000 * (1 - hf) + c) (1, 0, 0, 0, nI (tk ch n p).2.1)) (c + 1) B p2 vs1 O1 c1 B1) (h92 : (tk ch n p2).1 = 3 ∧ (tk ch n p2).2.2.1 = 91) (h' : PeOk l E wm dt ch n hf o 91 93 (o + 1) p2 vs1 O1 c1 B1 p3 vs3 O3 c3 B3) (h'' : PeBad l E wm dt ch n hf o 61 59 o p3 vs3 O3 c3 B3 kk pl) : TBt l E wm dt ch n hf s00 (((p, o), vs, O, c, B), bk :: Bl, Fn) kk pl := by
  intro Q hQ s hs
  exact T_put (sd := ms0) hst hs h1 hk hcl hc (by omega) rfl rfl rfl (fun z => absurd z hnf) (fun _ z => absurd h91 z) (fun _ _ _ => ixR_ok h ⟨fun z => absurd h92 z, fun _ _ => ixR_ok h' (eqR_bad h'' hQ)⟩)
theorem put_f1 (hst : l.stackTraces = false) {s00 : MS} {bk : BE} {Bl : List BE} {Fn : List FE} (h1 : (tk ch n p).1 = 1) (hk : kw (tk ch n p) = 41) (hcl : ¬ bt ch n (sk ch n (tk ch n p).2.2.2) = 40) (hc : c < 3850) (hbl : Bl.length + 1 ≤ o) (ho : o ≤ 10) (hnf : ¬ (¬ (1 ≤ (tk ch n p).2.2.1 ∧ (tk ch n p).2.2.1 ≤ 8) ∧ nix vs (tk ch n p).2.2.1 = 14)) (h91 : ¬ ((tk ch n (tk ch n p).2.2.2).1 = 3 ∧ (tk ch n (tk ch n p).2.2.2).2.2.1 = 91)) (h : PeOk l E wm dt ch n hf o 61 59 o (tk ch n p).2.2.2 (nmV vs (tk ch n p).2.2.1) (oup O (4000 * (1 - hf) + c) (1, 0, 0, 0, nI (tk ch n p).2.1)) (c + 1) B p2 vs1 O1 c1 B1) : TF l E wm dt ch n hf s00 (((p, o), vs, O, c, B), bk :: Bl, Fn) (((p2, o), vs1, oup O1 (4000 * (1 - hf) + c1) (12, nmN vs (tk ch n p).2.2.1, 0, 0, nI (tk ch n p).2.1), c1 + 1, B1), bk :: Bl, Fn) := by
  intro Q hQ s hs
  exact T_put (sd := ms0) hst hs h1 hk hcl hc (by omega) rfl rfl rfl (fun z => absurd z hnf) (fun _ _ => eqR_ok h hQ) (fun _ z1 z2 => absurd ⟨z1, z2⟩ h91)
theorem put_f2 (hst : l.stackTraces = false) {s00 : MS} {bk : BE} {Bl : List BE} {Fn : List FE} (h1 : (tk ch n p).1 = 1) (hk : kw (tk ch n p) = 41) (hcl : ¬ bt ch n (sk ch n (tk ch n p).2.2.2) = 40) (hc : c < 3850) (hbl : Bl.length + 1 ≤ o) (ho : o ≤ 10) (hnf : ¬ (¬ (1 ≤ (tk ch n p).2.2.1 ∧ (tk ch n p).2.2.1 ≤ 8) ∧ nix vs (tk ch n p).2.2.1 = 14)) (h91 : (tk ch n (tk ch n p).2.2.2).1 = 3 ∧ (tk ch n (tk ch n p).2.2.2).2.2.1 = 91) {p3 c3 : Nat} {vs3 : List Nat} {O3 : Nat → Od} {B3 : List Tok} (h : PeOk l E wm dt ch n hf o 91 93 (o + 1) (tk ch n p).2.2.2 (nmV vs (tk ch n p).2.2.1) (oup O (4000 * (1 - hf) + c) (1, 0, 0, 0, nI (tk ch n p).2.1)) (c + 1) B p2 vs1 O1 c1 B1) (h92 : ¬ ((tk ch n p2).1 = 3 ∧ (tk ch n p2).2.2.1 = 91)) (h' : PeOk l E wm dt ch n hf o 61 59 o p2 vs1 O1 c1 B1 p3 vs3 O3 c3 B3) : TF l E wm dt ch n hf s00 (((p, o), vs, O, c, B), bk :: Bl, Fn) (((p3, o), vs3, oup O3 (4000 * (1 - hf) + c3) (13, nmN vs (tk ch n p).2.2.1, 0, nI (tk ch n p).2.1, nI (tk ch n (tk ch n p).2.2.2).2.1), c3 + 1, B3), bk :: Bl, Fn) := by
  intro Q hQ s hs
  exact T_put (sd := ms0) hst hs h1 hk hcl hc (by omega) rfl rfl rfl (fun z => absurd z hnf) (fun _ z => absurd h91 z) (fun _ _ _ => ixR_ok h ⟨fun _ => eqR_ok h' hQ, fun z1 z2 => absurd ⟨z1, z2⟩ h92⟩)
theorem put_f3 (hst : l.stackTraces = false) {s00 : MS} {bk : BE} {Bl : List BE} {Fn : List FE} (h1 : (tk ch n p).1 = 1) (hk : kw (tk ch n p) = 41) (hcl : ¬ bt ch n (sk ch n (tk ch n p).2.2.2) = 40) (hc : c < 3850) (hbl : Bl.length + 1 ≤ o) (ho : o ≤ 10) (hnf : ¬ (¬ (1 ≤ (tk ch n p).2.2.1 ∧ (tk ch n p).2.2.1 ≤ 8) ∧ nix vs (tk ch n p).2.2.1 = 14)) (h91 : (tk ch n (tk ch n p).2.2.2).1 = 3 ∧ (tk ch n (tk ch n p).2.2.2).2.2.1 = 91) {p3 c3 p4 c4 : Nat} {vs3 vs4 : List Nat} {O3 O4 : Nat → Od} {B3 B4 : List Tok} (h : PeOk l E wm dt ch n hf o 91 93 (o + 1) (tk ch n p).2.2.2 (nmV vs (tk ch n p).2.2.1) (oup O (4000 * (1 - hf) + c) (1, 0, 0, 0, nI (tk ch n p).2.1)) (c + 1) B p2 vs1 O1 c1 B1) (h92 : (tk ch n p2).1 = 3 ∧ (tk ch n p2).2.2.1 = 91) (h' : PeOk l E wm dt ch n hf o 91 93 (o + 1) p2 vs1 O1 c1 B1 p3 vs3 O3 c3 B3) (h'' : PeOk l E wm dt ch n hf o 61 59 o p3 vs3 O3 c3 B3 p4 vs4 O4 c4 B4) : TF l E wm dt ch n hf s00 (((p, o), vs, O, c, B), bk :: Bl, Fn) (((p4, o), vs4, oup O4 (4000 * (1 - hf) + c4) (13, nmN vs (tk ch n p).2.2.1, (tk ch n p2).2.1 + 1, nI (tk ch n p).2.1, nI (tk ch n (tk ch n p).2.2.2).2.1), c4 + 1, B4), bk :: Bl, Fn) := by
  intro Q hQ s hs
  exact T_put (sd := ms0) hst hs h1 hk hcl hc (by omega) rfl rfl rfl (fun z => absurd z hnf) (fun _ z => absurd h91 z) (fun _ _ _ => ixR_ok h ⟨fun z => absurd h92 z, fun _ _ => ixR_ok h' (eqR_ok h'' hQ)⟩)
/-- a kid through a piece behind it -/
theorem Kg.pass {f0 fa fb fc : RH} {O O' : Nat → Od} {C C' : List CE} {nv nv' a b ca' : Nat} {T : RH → Pg → (Nat → Nat) → Nat → Nat → Prop} (K : Kg fa O C f0.1 [N] nv a b T) (lx : x0 < f0.1) (lw : nw < f0.1) (la : na < f0.1) (g1 : gE [x0, nw, na, ca'] fa fb) (t8 : tg fa ca' = some (.inr 8)) (g2 : gE [N] fb fc) (hO : ∀ i, a ≤ i → i < b → O' i = O i) (hC : ∀ e ∈ C, e ∈ C') (hv : nv ≤ nv') : Kg fc O' C' f0.1 [N] nv' a b T :=
  (K.keep (D2 := [N]) g1 (fun x hx => by
    simp only [List.mem_cons, List.not_mem_nil, or_false] at hx
    rcases hx with rfl | rfl | rfl | rfl
    · exact Or.inl lx
    · exact Or.inl lw
    · exact Or.inl la
    · exact Or.inr (Or.inr (Or.inr t8))) (fun x hx => Or.inl hx) hO hC hv).keep (D2 := [N]) g2 (fun x hx => Or.inr (Or.inl hx)) (fun x hx => Or.inl hx) (fun _ _ _ => rfl) (fun _ he => he) (Nat.le_refl _)
theorem Kg.own {f0 fa fb : RH} {O : Nat → Od} {C : List CE} {nv a b : Nat} {T : RH → Pg → (Nat → Nat) → Nat → Nat → Prop} (K : Kg fa O C f0.1 [N] nv a b T) (g : gE [N] fa fb) : Kg fb O C f0.1 [N] nv a b T := K.keep (D2 := [N]) g (fun x hx => Or.inr (Or.inl hx)) (fun x hx => Or.inl hx) (fun _ _ _ => rfl) (fun _ he => he) (Nat.le_refl _)
set_option maxHeartbeats 16000000 in
theorem D_assign (hst : l.stackTraces = false) (h : tIn w ch n x0 nw na E K0 p o ca cap c vs A B s f) (hns : ¬ ((tk ch n p).1 = 3 ∧ (tk ch n p).2.2.1 = 125)) (hcl : (tk ch n p).1 = 1 → kw (tk ch n p) = 41 → ¬ bt ch n (sk ch n (tk ch n p).2.2.2) = 40) (hot : (tk ch n p).1 = 1 → ¬ kw (tk ch n p) = 41 → kw (tk ch n p) ∈ [0, 2, 5, 10]) (ho1 : 1 ≤ o) (hd : 20 * (10 - o) + 59 ≤ d) (hok : dOk l E w wm dt ch n hf x0 nw na p o ca cap c vs O A B s f Q) (hbad : ∀ s' f', tBad l E wm dt ch n hf K0 p o c vs O B s s' f' → Q (.inr 1) s' f') : EvC l E w d MX11_assign [.ref x0] s f Q := by
  have hm := h.num
  have hsc := h.1.1
  have ht := hsc.tk
  have hr := h.1.2.2.1
  have hfb := h.1.2.2.2.1
  have hp1 := ht.1.2.1
  have hwk : ∀ p', ¬ (tk ch n p').1 = 4 → wk (tk ch n p') = 2 := fun p' z => if_neg z
  have hwk1 : ∀ p', (tk ch n p').1 = 4 → wk (tk ch n p') = 1 := fun p' z => if_pos z
  have kB : B ++ ([] : List CE).map toB = B := by rw [List.map_nil, List.append_nil]
  obtain ⟨d, rfl⟩ : ∃ d', d = d' + 9 + 1 := ⟨d - 10, by omega⟩
  refine eR11_assign hst ⟨by unfold rmF; omega, fun N f1 eN e1 => ?_⟩
  subst eN
  have g1 : gE [] f f1 := by rw [e1]; exact gE.new _ _
  have o1 : oc f1 f.1 28 := by rw [e1]; exact oc_new _ _
  have z1 : f1.1 = f.1 + 1 ∧ f1.2.1 = f.2.1 + 9 := by rw [e1]; exact ⟨rfl, rfl⟩
  have n1 : vl f1 f.1 200 = .null ∧ vl f1 f.1 201 = .null := by rw [e1]; exact ⟨vl_new _ _ _, vl_new _ _ _⟩
  refine eX30_init hst (eX14_init hst ⟨rfl, rfl, ?_⟩)
  have D1 := (dM.init (hf := hf) (O := O) h).heap (z' := 9) h g1 (fun a ha => absurd ha List.not_mem_nil) (by omega)
  have hr1 := D1.2.1.2.1
  have lx := hr.1.2.2.1
  have lw := hr.2.1.2.2.1
  have la := hr.2.2.1.2.2.1
  have lc := hr.2.2.2.2.2.1
  have cbN : ∀ {D : List Nat} {g : RH}, gE D f g → g.2.2.2 ≤ f.1 := fun q => by rw [q.2.1]; exact hfb
  have t28 : ∀ {g : RH}, oc g f.1 28 → ∀ a ∈ [f.1], g.1 ≤ a ∨ (f.1 ≤ a ∧ ¬ tg g a = some (.inr 8) ∧ ¬ tg g a = some (.inl 19)) := fun q a ha => Or.inr (by rw [List.mem_singleton.mp ha, q.1]; exact ⟨Nat.le_refl _, fun y => (by cases y), fun y => (by cases y)⟩)
  refine ⟨hr1.1.1, hr1.1.2.1, o1, cbN D1.2.1.1, fun f2 e2 => ?_⟩
  rw [hsc.2.1.1.2.1] at e2
  have g2 : gE [f.1] f1 f2 := by rw [e2]; exact gE.set _ _ _
  have o2 : oc f2 f.1 28 := by rw [e2]; exact set_oc o1
  have z2 : f2.1 = f1.1 ∧ f2.2.1 = f1.2.1 := by rw [e2]; exact ⟨rfl, rfl⟩
  have v2 : vl f2 f.1 197 = .int (nI (tk ch n p).2.1) ∧ vl f2 f.1 200 = .null ∧ vl f2 f.1 201 = .null := by
    rw [e2]; exact ⟨set_vl o1.1, (set_vn o1.1 (by decide)).trans n1.1, (set_vn o1.1 (by decide)).trans n1.2⟩
  have D2 := D1.heap (z' := 9) h g2 (t28 o1) (by omega)
  have hr2 := D2.2.1.2.1
  have hk2 := D2.kc h
  refine ⟨hr2.1.1, R_name hst hsc hk2.1 hr2 hk2.2 (fun y s' hF => hbad s' f2 (tBad.mk D2 hF (by omega) (by decide) (fun s00 bk Bl Fn hb => ?_))) (fun y1 y2 y3 y4 s' hF => hbad s' f2 (tBad.mk D2 hF (by omega) (by decide) (fun s00 bk Bl Fn hb => put_full hst y1 y2 (hcl y1 y2) (by omega) hb (by omega) ⟨y3, y4⟩))) (fun y1 y2 y3 y4 s' f' hF hb' => hbad s' f' (tBad.mk D2 hF (by omega) (by decide) (fun s00 bk Bl Fn hb => put_b1 hst y1 y2 (hcl y1 y2) (by omega) hb (by omega) y3 (fun q => by omega) (Or.inl ⟨fun q => by omega, (hwk1 _ y4).symm, rfl⟩)))) (fun y1 y2 y3 s3 f3 hcf3 hs3 hr3 g3 e3a e3b => ⟨_, rfl, ?_⟩)⟩
  · have := TB_st (l := l) (E := E) (w := wm) (d := dt) (hf := hf) (s00 := s00) (o := o) (vs := vs) (O := O) (B := B) (bk := bk) (Fn := Fn) (Bl := Bl) hst hns (show c < 3900 by omega) (by omega) (by
      by_cases q : (tk ch n p).1 = 1
      · exact Or.inr (hot q (fun q2 => y ⟨q, q2⟩))
      · exact Or.inl q)
    rw [hwk _ hsc.2.1.2.2] at this
    exact this
  have hp2 := ht.2.2.2.2 (by omega)
  have hcl := hcl y1 y2
  have nl := nm_len vs (tk ch n p).2.2.1
  have hNn : f.1 ∉ [nw, na] := by
    simp only [List.mem_cons, List.not_mem_nil, or_false]; omega
  have cN3 : f3.2.2.1 f.1 = f2.2.2.1 f.1 := g3.ce (by omega) hNn
  have o3 := ocE cN3 o2
  have D3 := D2.nm (u' := 1) h hcf3 hs3 hr3 g3 e3b nl.1 (by omega)
  refine ⟨o3, cbN D3.2.1.1, fun f4 e4 => ?_⟩
  have g4 : gE [f.1] f3 f4 := by rw [e4]; exact gE.set _ _ _
  have o4 : oc f4 f.1 28 := by rw [e4]; exact set_oc o3
  have z4 : f4.1 = f3.1 ∧ f4.2.1 = f3.2.1 := by rw [e4]; exact ⟨rfl, rfl⟩
  have v4 : vl f4 f.1 196 = .int (nI (nmN vs (tk ch n p).2.2.1)) ∧ vl f4 f.1 197 = .int (nI (tk ch n p).2.1) ∧ vl f4 f.1 200 = .null ∧ vl f4 f.1 201 = .null := by
    rw [e4]
    refine ⟨set_vl o3.1, (set_vn o3.1 (by decide)).trans ?_, (set_vn o3.1 (by decide)).trans ?_, (set_vn o3.1 (by decide)).trans ?_⟩
    · rw [(cellE cN3).2.2]; exact v2.1
    · rw [(cellE cN3).2.2]; exact v2.2.1
    · rw [(cellE cN3).2.2]; exact v2.2.2
  have D4 := (D3.heap (z' := 9) h g4 (t28 o3) (by omega)).ord (O2 := oup O (4000 * (1 - hf) + c) (1, 0, 0, 0, nI (tk ch n p).2.1)) (c2 := c + 1) (r' := 1) (fun i hi => oup_ne _ _ (by omega)) (by omega) (by omega)
  have hr4 := D4.2.1.2.1
  have hs4 := D4.1.2
  have ht4 := hs4.tk
  have hp4 := ht4.1.2.1
  refine ⟨hr4.1.1, hr4.1.2.1, C_is hst (c := 91) hs4.2.1.1 ht4.1.1 ht4.2.2.2.1 (by decide) ⟨_, rfl, pk_b (fun n91 => ⟨o4, .null, v4.2.2.1, rfl, fun _ => ?_, fun a q => by cases q⟩) (fun y91 => ⟨hr4.1.1, hr4.1.2.1, o4, cbN D4.2.1.1, fun f5 e5 => ?_⟩)⟩⟩
  · refine sg_tail (wm := wm) (dt := dt) (a := 61) (b := 59) (oi := o) (j := 202) (W := fun s21 f22 => Q (.inl (some (.ref f.1))) s21 f22) hst (Or.inl ⟨rfl, rfl, rfl⟩) D4 h o4 ⟨Nat.le_refl _, by omega⟩ (by omega) (by omega) (fun kk pl s' f' kF kb kk' kx => ?_) (fun p5 vs5 O5 c5 B5 s' f' k x4 kF kb hc5 => ?_) (fun p5 vs5 O5 c5 dC5 dA5 ca5 cap5 v s5 fa f5 D5 k ⟨q1, q2, q3, q4, q5, q6⟩ k4 k5 K ⟨kp, kc, kc', kN⟩ => ?_)
    · rw [kB] at kx
      exact hbad s' f' (tBad.mk D4 kF kb kk' (fun s00 bk Bl Fn hb => put_b1 hst y1 y2 hcl (by omega) hb (by omega) y3 n91 kx))
    · rw [kB] at k
      exact hbad s' f' (tBad.mk D4 kF kb (by decide) (fun s00 bk Bl Fn hb => (put_f1 hst y1 y2 hcl (by omega) hb (by omega) y3 n91 k).bad (TB_bad4 hst x4 (by omega) (by omega))))
    · rw [kB] at k
      have D6 := D5.ord (O2 := oup O5 (4000 * (1 - hf) + c5) (12, nmN vs (tk ch n p).2.2.1, 0, 0, nI (tk ch n p).2.1)) (c2 := c5 + 1) (r' := 2) (fun i hi => oup_ne _ _ (by omega)) (by omega) (by omega)
      refine hok f.1 28 s5 f5 q4 (by decide) (cbN D5.2.1.1) (fun f6 e6 => D6.fin h q4 (by decide) ⟨Nat.le_refl _, kN⟩ e6 (by omega) (by omega) (by omega) (by omega) (fun s00 bk Bl Fn hb => put_f1 hst y1 y2 hcl (by omega) hb (by omega) y3 n91 k) ?_ (fun f' P F M nv' t1' t2' t3' t4' t5' e161 oN ltN vlN => ?_))
      · rw [oup_ne _ _ (by omega), k4 _ (by omega)]; exact oup_at _ _ _
      · have g6 : gE [f.1] f5 f6 := by rw [e6]; exact gE.set _ _ _
        have rn := (K.own g6).rep (Nat.le_refl f6.1) t1' t2' (fun i i1 i2 => by have := t3' i (by omega) (by omega); rw [oup_ne _ _ (by omega)] at this; exact this) t4' t5'
        have pt := t3' (4000 * (1 - hf) + c5) (by omega) (by omega)
        rw [oup_at] at pt
        have pt := pt.eq (by exact Nat.ne_of_beq_eq_false rfl) (by exact Nat.ne_of_beq_eq_false rfl)
        refine ⟨f.1, nI (tk ch n p).2.1, rfl, ltN, e161, hN_1 _ _, Or.inr (Or.inr (Or.inr (Or.inr (Or.inr ⟨oN, nmN vs (tk ch n p).2.2.1, by rw [vlN 196 (by decide), q6 196 (by decide)]; exact v4.1, by omega, Or.inl ⟨by rw [vlN 200 (by decide), q6 200 (by decide)]; exact v4.2.2.1, by rw [vlN 201 (by decide), q6 201 (by decide)]; exact v4.2.2.2, 4000 * (1 - hf) + c5, 0, 0, nI (tk ch n p).2.1, ?_, pt, rfl⟩⟩))))⟩
        rw [vlN 202 (by decide), q5]
        exact rn.mono (by omega) (hN_le (by omega) (by omega))
  · rw [hs4.2.1.1.2.1] at e5
    have g5 : gE [f.1] f4 f5 := by rw [e5]; exact gE.set _ _ _
    have o5 : oc f5 f.1 28 := by rw [e5]; exact set_oc o4
    have z5 : f5.1 = f4.1 ∧ f5.2.1 = f4.2.1 := by rw [e5]; exact ⟨rfl, rfl⟩
    have v5 : vl f5 f.1 198 = .int (nI (tk ch n (tk ch n p).2.2.2).2.1) ∧ vl f5 f.1 196 = .int (nI (nmN vs (tk ch n p).2.2.1)) ∧ vl f5 f.1 197 = .int (nI (tk ch n p).2.1) ∧ vl f5 f.1 201 = .null := by
      rw [e5]
      exact ⟨set_vl o4.1, (set_vn o4.1 (by decide)).trans v4.1, (set_vn o4.1 (by decide)).trans v4.2.1, (set_vn o4.1 (by decide)).trans v4.2.2.2⟩
    have D5 := D4.heap (z' := 9) h g5 (t28 o4) (by omega)
    refine sg_tail (wm := wm) (dt := dt) (a := 91) (b := 93) (oi := o + 1) (j := 200) hst (Or.inr ⟨rfl, rfl, rfl⟩) D5 h o5 ⟨Nat.le_refl _, by omega⟩ (by omega) (by omega) (fun kk pl s' f' kF kb kk' kx => ?_) (fun p6 vs6 O6 c6 B6 s' f' k x4 kF kb hc6 => ?_) (fun p6 vs6 O6 c6 dC6 dA6 ca6 cap6 v s6 fa f6 D6 k ⟨q1, q2, q3, q4, q5, q6⟩ k4 k5 K ⟨kp, kc, kc', kN⟩ => ⟨q4, .ref v, q5, rfl, fun q => (by cases q), fun a65 _ => ?_⟩)
    · rw [kB] at kx
      exact hbad s' f' (tBad.mk D5 kF kb kk' (fun s00 bk Bl Fn hb => put_b2 hst y1 y2 hcl (by omega) hb (by omega) y3 y91 kx))
    · rw [kB] at k
      exact hbad s' f' (tBad.mk D5 kF kb (by decide) (fun s00 bk Bl Fn hb => put_b3 hst y1 y2 hcl (by omega) hb (by omega) y3 y91 k (fun q => by omega) (Or.inl ⟨fun q => by omega, (hwk1 _ x4).symm, rfl⟩)))
    rw [kB] at k
    have hr6 := D6.2.1.2.1
    have hs6 := D6.1.2
    have ht6 := hs6.tk
    have hp6 := ht6.1.2.1
    refine ⟨hr6.1.1, hr6.1.2.1, C_is hst (c := 91) hs6.2.1.1 ht6.1.1 ht6.2.2.2.1 (by decide) ⟨_, rfl, pk_b (fun n92 => ?_) (fun y92 => ⟨hr6.1.1, hr6.1.2.1, q4, cbN D6.2.1.1, fun f7 e7 => ?_⟩)⟩⟩
    · refine sg_tail (wm := wm) (dt := dt) (a := 61) (b := 59) (oi := o) (j := 202) (W := fun s21 f22 => Q (.inl (some (.ref f.1))) s21 f22) hst (Or.inl ⟨rfl, rfl, rfl⟩) D6 h q4 ⟨Nat.le_refl _, kN⟩ (by omega) (by omega) (fun kk pl s' f' kF kb kk' kx => ?_) (fun p7 vs7 O7 c7 B7 s' f' k' x4 kF kb hc7 => ?_) (fun p7 vs7 O7 c7 dC7 dA7 ca7 cap7 v' s7 fb f7 D7 k' ⟨r1, r2, r3, r4, r5, r6⟩ m4 m5 K' ⟨mp, mc, mc', mN⟩ => ?_)
      · exact hbad s' f' (tBad.mk D6 kF kb kk' (fun s00 bk Bl Fn hb => put_b3 hst y1 y2 hcl (by omega) hb (by omega) y3 y91 k n92 kx))
      · exact hbad s' f' (tBad.mk D6 kF kb (by decide) (fun s00 bk Bl Fn hb => (put_f2 hst y1 y2 hcl (by omega) hb (by omega) y3 y91 k n92 k').bad (TB_bad4 hst x4 (by omega) (by omega))))
      · have D8 := D7.ord (O2 := oup O7 (4000 * (1 - hf) + c7) (13, nmN vs (tk ch n p).2.2.1, 0, nI (tk ch n p).2.1, nI (tk ch n (tk ch n p).2.2.2).2.1)) (c2 := c7 + 1) (r' := 2) (fun i hi => oup_ne _ _ (by omega)) (by omega) (by omega)
        refine hok f.1 28 s7 f7 r4 (by decide) (cbN D7.2.1.1) (fun f8 e8 => D8.fin h r4 (by decide) ⟨Nat.le_refl _, mN⟩ e8 (by omega) (by omega) (by omega) (by omega) (fun s00 bk Bl Fn hb => put_f2 hst y1 y2 hcl (by omega) hb (by omega) y3 y91 k n92 k') ?_ (fun f' P F M nv' t1' t2' t3' t4' t5' e161 oN ltN vlN => ?_))
        · rw [oup_ne _ _ (by omega), m4 _ (by omega), k4 _ (by omega)]; exact oup_at _ _ _
        · have g8 : gE [f.1] f7 f8 := by rw [e8]; exact gE.set _ _ _
          have old : ∀ i, 4000 * (1 - hf) + c ≤ i → i < 4000 * (1 - hf) + c7 → oAg (O7 i) (P.1 i) := fun i i1 i2 => by
            have := t3' i (by omega) (by omega)
            rw [oup_ne _ _ (by omega)] at this; exact this
          have rn1 := ((K.pass lx lw la r1 r2 r3 (fun i i1 i2 => m4 i (by omega)) (fun e he => List.mem_append_left _ he) m5).own g8).rep (Nat.le_refl f8.1) t1' t2' (fun i i1 i2 => old i (by omega) (by omega)) t4' t5'
          have rn2 := (K'.own g8).rep (Nat.le_refl f8.1) t1' t2' (fun i i1 i2 => old i (by omega) (by omega)) t4' t5'
          have pt := t3' (4000 * (1 - hf) + c7) (by omega) (by omega)
          rw [oup_at] at pt
          have pt := pt.eq (by exact Nat.ne_of_beq_eq_false rfl) (by exact Nat.ne_of_beq_eq_false rfl)
          have hw1 := hN_w (p := p) (p1 := p6 + 1) (p2 := p7) (w := 1) (by omega) (by omega)
          refine ⟨f.1, nI (tk ch n p).2.1, rfl, ltN, e161, hN_1 _ _, Or.inr (Or.inr (Or.inr (Or.inr (Or.inr ⟨oN, nmN vs (tk ch n p).2.2.1, by rw [vlN 196 (by decide), r6 196 (by decide), q6 196 (by decide)]; exact v5.2.1, by omega, Or.inr (Or.inl ⟨by rw [vlN 201 (by decide), r6 201 (by decide), q6 201 (by decide)]; exact v5.2.2.2, 4000 * (1 - hf) + c6, 4000 * (1 - hf) + c7, hN (p6 + 1) p7, nI (tk ch n p).2.1, nI (tk ch n (tk ch n p).2.2.2).2.1, by rw [vlN 197 (by decide), r6 197 (by decide), q6 197 (by decide)]; exact v5.2.2.1, by rw [vlN 198 (by decide), r6 198 (by decide), q6 198 (by decide)]; exact v5.1, ?_, by omega, ?_, pt, rfl⟩)⟩))))⟩
          · rw [vlN 200 (by decide), r6 200 (by decide), q5]
            exact rn1.mono (by omega) (hN_le (by omega) (by omega))
          · rw [vlN 202 (by decide), r5]
            exact rn2.mono (by omega) (Nat.le_refl _)
    · rw [hs6.2.1.1.2.1] at e7
      have g7 : gE [f.1] f6 f7 := by rw [e7]; exact gE.set _ _ _
      have o7 : oc f7 f.1 28 := by rw [e7]; exact set_oc q4
      have z7 : f7.1 = f6.1 ∧ f7.2.1 = f6.2.1 := by rw [e7]; exact ⟨rfl, rfl⟩
      have v7 : vl f7 f.1 199 = .int (nI (tk ch n p6).2.1) ∧ ∀ i, ¬ i = 199 → vl f7 f.1 i = vl f6 f.1 i := by
        rw [e7]; exact ⟨set_vl q4.1, fun i hi => set_vn q4.1 hi⟩
      have D7 := D6.heap (z' := 9) h g7 (t28 q4) (by omega)
      have K7 := K.own g7
      refine sg_tail (wm := wm) (dt := dt) (a := 91) (b := 93) (oi := o + 1) (j := 201) hst (Or.inr ⟨rfl, rfl, rfl⟩) D7 h o7 ⟨Nat.le_refl _, by omega⟩ (by omega) (by omega) (fun kk pl s' f' kF kb kk' kx => ?_) (fun p8 vs8 O8 c8 B8 s' f' k' x4 kF kb hc8 => ?_) (fun p8 vs8 O8 c8 dC8 dA8 ca8 cap8 v' s8 fb f8 D8 k' ⟨r1, r2, r3, r4, r5, r6⟩ m4 m5 K' ⟨mp, mc, mc', mN⟩ => ?_)
      · exact hbad s' f' (tBad.mk D7 kF kb kk' (fun s00 bk Bl Fn hb => put_b4 hst y1 y2 hcl (by omega) hb (by omega) y3 y91 k y92 kx))
      · exact hbad s' f' (tBad.mk D7 kF kb (by decide) (fun s00 bk Bl Fn hb => put_b5 hst y1 y2 hcl (by omega) hb (by omega) y3 y91 k y92 k' (Or.inl ⟨fun q => by omega, (hwk1 _ x4).symm, rfl⟩)))
      refine sg_tail (wm := wm) (dt := dt) (a := 61) (b := 59) (oi := o) (j := 202) (W := fun s21 f22 => Q (.inl (some (.ref f.1))) s21 f22) hst (Or.inl ⟨rfl, rfl, rfl⟩) D8 h r4 ⟨Nat.le_refl _, mN⟩ (by omega) (by omega) (fun kk pl s' f' kF kb kk' kx => ?_) (fun p9 vs9 O9 c9 B9 s' f' k'' x4 kF kb hc9 => ?_) (fun p9 vs9 O9 c9 dC9 dA9 ca9 cap9 v'' s9 fc f9 D9 k'' ⟨w1, w2, w3, w4, w5, w6⟩ n4 n5 K'' ⟨np, nc, nc', nN⟩ => ?_)
      · exact hbad s' f' (tBad.mk D8 kF kb kk' (fun s00 bk Bl Fn hb => put_b5 hst y1 y2 hcl (by omega) hb (by omega) y3 y91 k y92 k' kx))
      · exact hbad s' f' (tBad.mk D8 kF kb (by decide) (fun s00 bk Bl Fn hb => (put_f3 hst y1 y2 hcl (by omega) hb (by omega) y3 y91 k y92 k' k'').bad (TB_bad4 hst x4 (by omega) (by omega))))
      · have Da := D9.ord (O2 := oup O9 (4000 * (1 - hf) + c9) (13, nmN vs (tk ch n p).2.2.1, (tk ch n p6).2.1 + 1, nI (tk ch n p).2.1, nI (tk ch n (tk ch n p).2.2.2).2.1)) (c2 := c9 + 1) (r' := 2) (fun i hi => oup_ne _ _ (by omega)) (by omega) (by omega)
        have hp6n := ht6.1.2.2.1
        refine hok f.1 28 s9 f9 w4 (by decide) (cbN D9.2.1.1) (fun fd ed => Da.fin h w4 (by decide) ⟨Nat.le_refl _, nN⟩ ed (by omega) (by omega) (by omega) (by omega) (fun s00 bk Bl Fn hb => put_f3 hst y1 y2 hcl (by omega) hb (by omega) y3 y91 k y92 k' k'') ?_ (fun f' P F M nv' t1' t2' t3' t4' t5' e161 oN ltN vlN => ?_))
        · rw [oup_ne _ _ (by omega), n4 _ (by omega), m4 _ (by omega), k4 _ (by omega)]; exact oup_at _ _ _
        · have gd : gE [f.1] f9 fd := by rw [ed]; exact gE.set _ _ _
          have old : ∀ i, 4000 * (1 - hf) + c ≤ i → i < 4000 * (1 - hf) + c9 → oAg (O9 i) (P.1 i) := fun i i1 i2 => by
            have := t3' i (by omega) (by omega)
            rw [oup_ne _ _ (by omega)] at this; exact this
          have rn1 := (((K7.pass lx lw la r1 r2 r3 (fun i i1 i2 => m4 i (by omega)) (fun e he => List.mem_append_left _ he) m5).pass lx lw la w1 w2 w3 (fun i i1 i2 => n4 i (by omega)) (fun e he => List.mem_append_left _ he) n5).own gd).rep (Nat.le_refl fd.1) t1' t2' (fun i i1 i2 => old i (by omega) (by omega)) t4' t5'
          have rn2 := ((K'.pass lx lw la w1 w2 w3 (fun i i1 i2 => n4 i (by omega)) (fun e he => List.mem_append_left _ he) n5).own gd).rep (Nat.le_refl fd.1) t1' t2' (fun i i1 i2 => old i (by omega) (by omega)) t4' t5'
          have rn3 := (K''.own gd).rep (Nat.le_refl fd.1) t1' t2' (fun i i1 i2 => old i (by omega) (by omega)) t4' t5'
          have pt := t3' (4000 * (1 - hf) + c9) (by omega) (by omega)
          rw [oup_at] at pt
          have pt := pt.eq (by exact Nat.ne_of_beq_eq_false rfl) (by exact Nat.ne_of_beq_eq_false rfl)
          have hw1 := hN_w (p := p) (p1 := p6 + 1) (p2 := p9) (w := 1) (by omega) (by omega)
          have hw1' := hN_le (p := p6 + 1) (p1 := p6 + 1) (p2 := p8) (p3 := p9) (Nat.le_refl _) (by omega)
          have hw2 := hN_w (p := p) (p1 := p8 + 1) (p2 := p9) (w := 2) (by omega) (by omega)
          have vv : ∀ i, ¬ i = 161 → ¬ i = 202 → ¬ i = 201 → ¬ i = 199 → ¬ i = 200 → vl f' f.1 i = vl f5 f.1 i := fun i i1 i2 i3 i4 i5 => (vlN i i1).trans ((w6 i i2).trans ((r6 i i3).trans ((v7.2 i i4).trans (q6 i i5))))
          refine ⟨f.1, nI (tk ch n p).2.1, rfl, ltN, e161, hN_1 _ _, Or.inr (Or.inr (Or.inr (Or.inr (Or.inr ⟨oN, nmN vs (tk ch n p).2.2.1, by rw [vv 196 (by decide) (by decide) (by decide) (by decide) (by decide)]; exact v5.2.1, by omega, Or.inr (Or.inr ⟨4000 * (1 - hf) + c6, 4000 * (1 - hf) + c8, 4000 * (1 - hf) + c9, hN (p6 + 1) p8, hN (p8 + 1) p9, (tk ch n p6).2.1, v', nI (tk ch n p).2.1, nI (tk ch n (tk ch n p).2.2.2).2.1, by rw [vlN 201 (by decide), w6 201 (by decide)]; exact r5, by rw [vv 197 (by decide) (by decide) (by decide) (by decide) (by decide)]; exact v5.2.2.1, by rw [vv 198 (by decide) (by decide) (by decide) (by decide) (by decide)]; exact v5.1, by rw [vlN 199 (by decide), w6 199 (by decide), r6 199 (by decide)]; exact v7.1, by omega, ?_, by omega, ?_, by omega, ?_, pt, rfl⟩)⟩))))⟩
          · rw [vlN 200 (by decide), w6 200 (by decide), r6 200 (by decide), v7.2 200 (by decide), q5]
            exact rn1.mono (by omega) (hN_le (by omega) (by omega))
          · rw [vlN 201 (by decide), w6 201 (by decide), r5]
            exact rn2.mono (by omega) (Nat.le_refl _)
          · rw [vlN 202 (by decide), w5]
            exact rn3.mono (by omega) (Nat.le_refl _)
end AS9
