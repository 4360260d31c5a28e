/-! ASSIGNMENTS: pieces -/
theorem gE.setO {f : RH} {k : Nat} (a j : Nat) (v : Value) (ht : tg f a = some (.inl k)) (hk : k ∉ [11, 12]) : gE [a] f (fset f a j v) :=
  gE.set0 a j v ⟨fun z => absurd (ht.symm.trans z) (fun e => hk (by injection e with e; injection e with e; rw [e]; decide)), fun z => absurd (ht.symm.trans z) (fun e => hk (by injection e with e; injection e with e; rw [e]; decide))⟩
section PE8
variable (l : Launch) (E : EN) (wm : MO) (dt : Nat) (ch : Nat → Nat) (n hf o a b oi : Nat)
/-- sign a, an E, sign b: done -/
def PeOk (p : Nat) (vs : List Nat) (O : Nat → Od) (c : Nat) (B : List Tok) (p' : Nat) (vs' : List Nat) (O' : Nat → Od) (c' : Nat) (B' : List Tok) : Prop := ((tk ch n p).1 = 3 ∧ (tk ch n p).2.2.1 = a) ∧ (a = 91 → o < 10) ∧ ∃ q' p1, XF l E wm dt 0 ch n hf ms0 (0, 0) (((tk ch n p).2.2.2, oi), vs, O, c, B, []) q' ((p1, oi), vs', O', c', B', []) ∧ okE q' (tk ch n p1) ∧ c' < 3900 ∧ ((tk ch n p1).1 = 3 ∧ (tk ch n p1).2.2.1 = b) ∧ p' = (tk ch n p1).2.2.2
def PeBad (p : Nat) (vs : List Nat) (O : Nat → Od) (c : Nat) (B : List Tok) (k pl : Nat) : Prop := (¬ ((tk ch n p).1 = 3 ∧ (tk ch n p).2.2.1 = a) ∧ k = wk (tk ch n p) ∧ pl = (tk ch n p).2.1) ∨ (((tk ch n p).1 = 3 ∧ (tk ch n p).2.2.1 = a) ∧ a = 91 ∧ o = 10 ∧ k = 3 ∧ pl = (tk ch n p).2.1) ∨ (((tk ch n p).1 = 3 ∧ (tk ch n p).2.2.1 = a) ∧ (a = 91 → o < 10) ∧ (XB l E wm dt 0 ch n hf ms0 (0, 0) (((tk ch n p).2.2.2, oi), vs, O, c, B, []) k pl ∨ ∃ q' p1 vs' O' c' B', XF l E wm dt 0 ch n hf ms0 (0, 0) (((tk ch n p).2.2.2, oi), vs, O, c, B, []) q' ((p1, oi), vs', O', c', B', []) ∧ okE q' (tk ch n p1) ∧ c' < 3900 ∧ ¬ ((tk ch n p1).1 = 3 ∧ (tk ch n p1).2.2.1 = b) ∧ k = wk (tk ch n p1) ∧ pl = (tk ch n p1).2.1))
end PE8
theorem pOk.cf {l : Launch} {E : EN} {w : CO} {wm : MO} {dm : Nat} {al : Int32} {ch : Nat → Nat} {n hf : Nat} {s0 : MS} {x0 nw na p o ca cap c gm v : Nat} {vs : List Nat} {O : Nat → Od} {A : List (Nat × Nat × Nat)} {B : List Tok} {X : List XE} {s s' : CS} {f f' : RH} {Rq : Nat × Nat → Tok → Prop} (k : pOk l E w wm dm al ch n hf s0 x0 nw na p o ca cap c vs O A B X s f Rq gm v s' f') : cfP s s' := by
  obtain ⟨_, _, _, _, _, _, _, _, _, k, _⟩ := k
  exact k.1
section AS8
variable {l : Launch} {E : EN} {w : CO} {wm : MO} {dt d : Nat} {ch : Nat → Nat} {n hf : Nat} {x0 nw na K0 p o ca cap c u z r p1 o1 ca1 cap1 c1 p2 c2 N k m : Nat} {vs vs1 : List Nat} {O O1 O2 : Nat → Od} {A dA : List (Nat × Nat × Nat)} {B B1 : List Tok} {dC : List CE} {s s1 s2 : CS} {f f1 f2 : RH} {Q : KO → CS → RH → Prop}
theorem eqR_ok {F : Nat → Nat → Prop} {G : Nat → List Nat → (Nat → Od) → Nat → List Tok → Prop} {p' c' : Nat} {vs' : List Nat} {O' : Nat → Od} {B' : List Tok} (h : PeOk l E wm dt ch n hf o 61 59 o p vs O c B p' vs' O' c' B') (hG : G p' vs' O' c' B') : EqR l E wm dt ch n hf ms0 p o vs O c B F G := by
  obtain ⟨h1, -, q', p1, h2, h3, h4, h5, rfl⟩ := h
  exact ⟨fun z => absurd h1 z, fun _ _ => Or.inr ⟨q', p1, vs', O', c', B', h2, h3, h4, fun z => absurd h5 z, fun _ _ => hG⟩⟩
theorem eqR_bad {F : Nat → Nat → Prop} {G : Nat → List Nat → (Nat → Od) → Nat → List Tok → Prop} {k pl : Nat} (h : PeBad l E wm dt ch n hf o 61 59 o p vs O c B k pl) (hF : F k pl) : EqR l E wm dt ch n hf ms0 p o vs O c B F G := by
  rcases h with ⟨b1, rfl, rfl⟩ | ⟨-, b2, -⟩ | ⟨b1, -, b2 | ⟨q', p1, vs', O', c', B', h2, h3, h4, h5, rfl, rfl⟩⟩
  · exact ⟨fun _ => hF, fun z1 z2 => absurd ⟨z1, z2⟩ b1⟩
  · omega
  · exact ⟨fun z => absurd b1 z, fun _ _ => Or.inl ⟨k, pl, b2, hF⟩⟩
  · exact ⟨fun z => absurd b1 z, fun _ _ => Or.inr ⟨q', p1, vs', O', c', B', h2, h3, h4, fun _ => hF, fun z1 z2 => absurd ⟨z1, z2⟩ h5⟩⟩
theorem ixR_ok {F : Nat → Nat → Prop} {G : Nat → List Nat → (Nat → Od) → Nat → List Tok → Prop} {p' c' : Nat} {vs' : List Nat} {O' : Nat → Od} {B' : List Tok} (h : PeOk l E wm dt ch n hf o 91 93 (o + 1) p vs O c B p' vs' O' c' B') (hG : G p' vs' O' c' B') : IxR l E wm dt ch n hf ms0 p o vs O c B F G := by
  obtain ⟨h1, h0, q', p1, h2, h3, h4, h5, rfl⟩ := h
  have h0 := h0 rfl
  exact ⟨fun z => by omega, fun _ => Or.inr ⟨q', p1, vs', O', c', B', h2, h3, h4, fun z => absurd h5 z, fun _ _ => hG⟩⟩
theorem ixR_bad {F : Nat → Nat → Prop} {G : Nat → List Nat → (Nat → Od) → Nat → List Tok → Prop} {k pl : Nat} (h91 : (tk ch n p).1 = 3 ∧ (tk ch n p).2.2.1 = 91) (h : PeBad l E wm dt ch n hf o 91 93 (o + 1) p vs O c B k pl) (hF : F k pl) : IxR l E wm dt ch n hf ms0 p o vs O c B F G := by
  rcases h with ⟨b1, -⟩ | ⟨-, -, b2, rfl, rfl⟩ | ⟨b1, b0, b2 | ⟨q', p1, vs', O', c', B', h2, h3, h4, h5, rfl, rfl⟩⟩
  · exact absurd h91 b1
  · exact ⟨fun _ => hF, fun z => by omega⟩
  · exact ⟨fun z => by have := b0 rfl; omega, fun _ => Or.inl ⟨k, pl, b2, hF⟩⟩
  · exact ⟨fun z => by have := b0 rfl; omega, fun _ => Or.inr ⟨q', p1, vs', O', c', B', h2, h3, h4, fun _ => hF, fun z1 z2 => absurd ⟨z1, z2⟩ h5⟩⟩
set_option maxHeartbeats 8000000 in
/-- sign a, an E into a field, sign b -/
theorem sg_tail (hst : l.stackTraces = false) {a b oi j : Nat} {W : CS → RH → Prop} (hab : (a = 61 ∧ b = 59 ∧ oi = o) ∨ (a = 91 ∧ b = 93 ∧ oi = o + 1)) (D : dM w ch n hf x0 nw na p o ca cap c vs O A s f u 9 r p1 o ca1 cap1 c1 vs1 O1 dC dA s1 f1) (hi : tIn w ch n x0 nw na E K0 p o ca cap c vs A B s f) (hN1 : oc f1 N 28) (hN2 : f.1 ≤ N ∧ N < f1.1) (hr : r ≤ 3 * u + 3) (hd : 20 * (10 - o) + 40 ≤ d)
    (hbad : ∀ k pl s' f', cFl s1 s' k pl → f'.2.1 ≤ K0 → (1 ≤ k ∧ k ≤ 6) → PeBad l E wm dt ch n hf o a b oi p1 vs1 O1 c1 (B ++ dC.map toB) k pl → Q (.inr 1) s' f')
    (hbad2 : ∀ p2 vs2 O2 c2 B2 s' f', PeOk l E wm dt ch n hf o a b oi p1 vs1 O1 c1 (B ++ dC.map toB) p2 vs2 O2 c2 B2 → (tk ch n p2).1 = 4 → cFl s1 s' 1 (tk ch n p2).2.1 → f'.2.1 ≤ K0 → c2 < 3800 → Q (.inr 1) s' f')
    (hok : ∀ p2 vs2 O2 c2 dC2 dA2 ca2 cap2 v s2 fa f2, dM w ch n hf x0 nw na p o ca cap c vs O A s f (u + 1 + 1) 9 r p2 o ca2 cap2 c2 vs2 O2 (dC ++ dC2) (dA ++ dA2) s2 f2 → PeOk l E wm dt ch n hf o a b oi p1 vs1 O1 c1 (B ++ dC.map toB) p2 vs2 O2 c2 (B ++ (dC ++ dC2).map toB) → (gE [x0, nw, na, ca1] f1 fa ∧ tg f1 ca1 = some (.inr 8) ∧ gE [N] fa f2 ∧ oc f2 N 28 ∧ vl f2 N j = .ref v ∧ ∀ i, ¬ i = j → vl f2 N i = vl f1 N i) → (∀ i, i < 4000 * (1 - hf) + c1 → O2 i = O1 i) → vs1.length ≤ vs2.length → Kg f2 O2 (dC ++ dC2) f.1 [N] vs2.length (4000 * (1 - hf) + c1) (4000 * (1 - hf) + c2) (fun f' P F M nv' => RepN f' P F M nv' (7 * (10 - o) + 7) (.ref v) (4000 * (1 - hf) + c1) (4000 * (1 - hf) + c2) (hN (p1 + 1) p2)) → (p1 + 3 ≤ p2 ∧ c1 ≤ c2 ∧ c2 < 3800 ∧ N < f2.1) → W s2 f2) :
    oc f1 x0 11 ∧ vl f1 x0 147 = .ref (w.1 2) ∧ (EvC l E w d MX2_take [.ref (w.1 2), .int (nI a)] s1 f1 (fun o s15 f16 => KP o (fun r => r = none ∧ (oc f16 x0 11 ∧ EvC l E w d MX11_expression [.ref x0] s15 f16 (fun o s17 f18 => KP o (fun r => ∃ a19 : Nat, r = some (.ref a19) ∧ (oc f18 N 28 ∧ f18.2.2.2 ≤ N ∧ ∀ f20 : RH, f20 = fset f18 N j (.ref a19) → (oc f20 x0 11 ∧ vl f20 x0 147 = .ref (w.1 2) ∧ (EvC l E w d MX2_take [.ref (w.1 2), .int (nI b)] s17 f20 (fun o s21 f22 => KP o (fun r => r = none ∧ W s21 f22) (fun k => Q (.inr k) s21 f22)))))) (fun k => Q (.inr k) s17 f18)))) (fun k => Q (.inr k) s15 f16))) := by
  have hr1 := D.2.1.2.1
  have hk1 := D.kc hi
  have hs1 := D.1.2
  have ht1 := hs1.tk
  have hp1 := ht1.1.2.1
  have hr0 := hi.1.2.2.1
  have lx := hr0.1.2.2.1
  have lw := hr0.2.1.2.2.1
  have la := hr0.2.2.1.2.2.1
  have hfb := hi.1.2.2.2.1
  have hl1 := D.2.1.1.1
  have I1 := (D.inn hi (by omega) (by omega)).nums
  have cbN : ∀ {D : List Nat} {g : RH}, gE D f g → g.2.2.2 ≤ N := fun q => by rw [q.2.1]; omega
  obtain ⟨d, rfl⟩ : ∃ d', d = d' + 7 := ⟨d - 7, by omega⟩
  have hop : (a = 40 ∨ a = 91 ∨ a = 123) ↔ a = 91 := by omega
  refine ⟨hr1.1.1, hr1.1.2.1, C_takeS hst (c := a) hs1 hk1.1.1 (by omega) (fun z => by omega) (fun y s' hF => hbad 2 _ s' f1 hF (by omega) (by decide) (Or.inl ⟨y, (if_neg hs1.2.1.2.2).symm, rfl⟩)) (fun y1 y2 y0 y3 s' hF => hbad 3 _ s' f1 hF (by omega) (by decide) (Or.inr (Or.inl ⟨⟨y1, y2⟩, by omega, y3, rfl, rfl⟩))) (fun y1 y2 y3 s' y4 hF => hbad 1 _ s' f1 hF (by omega) (by decide) (Or.inr (Or.inr ⟨⟨y1, y2⟩, fun q => ?_, Or.inl (XB_bad0 hst y4 (by decide) (by omega))⟩))) (fun y1 y2 y3 s2 hcf2 hs2 => ⟨rfl, hr1.1.1, ?_⟩)⟩
  · have := fun q' => y3 ⟨hop.mpr q, q'⟩
    omega
  have hp2 := ht1.2.2.2.2 (by omega)
  have ha91 : a = 91 → o < 10 := fun q => by
    have := fun q' => y3 ⟨hop.mpr q, q'⟩
    omega
  have eo : (if a = 40 ∨ a = 91 ∨ a = 123 then o + 1 else if a = 41 ∨ a = 93 ∨ a = 125 then o - 1 else o) = oi := by
    rcases hab with ⟨h1, -, h3⟩ | ⟨h1, -, h3⟩
    · rw [if_neg (by omega), if_neg (by omega)]; exact h3.symm
    · rw [if_pos (by omega)]; exact h3.symm
  rw [eo] at hs2
  have D2 := D.tok (u' := 1) hcf2 hs2 (by omega)
  have I2 := D2.inn hi (by omega) (by omega)
  have hoi : oi ≤ 10 := hs2.2.2.2.1
  refine R_expr (al := 0) (wm := wm) (dm := dt) (hf := hf) (s0 := ms0) hst (tk ch n p1).2.2.2 oi ca1 cap1 c1 vs1 O1 (A ++ dA) (B ++ dC.map toB) [] s2 f1 (d + 7) _ I2 (Nat.zero_le _) (by decide) (fun x X' e => by cases e) (Or.inl rfl) (by omega) (fun v s3 f3 k => ⟨v, rfl, ?_⟩) (fun s' f' k => ?_)
  · obtain ⟨p3, vs3, O3, c3, dC3, dA3, ca3, cap3, q3, D3, ⟨k1, k2⟩, ⟨k3, k4, k5, k6⟩, ⟨k7, k8, k9⟩⟩ := D2.sub (D := [N]) (fun x hx => by rw [List.mem_singleton.mp hx]; exact hN2.2) k
    have hNc : N ∉ [x0, nw, na, ca1] := by
      intro q
      simp only [List.mem_cons, List.not_mem_nil, or_false] at q
      rcases q with q | q | q | q
      · omega
      · omega
      · omega
      · have := hN1.1; rw [q, k9] at this; cases this
    have cN3 : f3.2.2.1 N = f1.2.2.1 N := k3.ce hN2.2 hNc
    have o3 := ocE cN3 hN1
    have hl3 := k3.1
    refine ⟨o3, cbN D3.2.1.1, fun f4 e4 => ?_⟩
    have g4 : gE [N] f3 f4 := by rw [e4]; exact gE.setO _ _ _ o3.1 (by decide)
    have o4 : oc f4 N 28 := by rw [e4]; exact set_oc o3
    have z4 : f4.1 = f3.1 ∧ f4.2.1 = f3.2.1 := by rw [e4]; exact ⟨rfl, rfl⟩
    have v4 : vl f4 N j = .ref v ∧ ∀ i, ¬ i = j → vl f4 N i = vl f1 N i := by
      rw [e4]
      refine ⟨set_vl o3.1, fun i hi => (set_vn o3.1 hi).trans (by rw [(cellE cN3).2.2])⟩
    have D4 := D3.heap (z' := 9) hi g4 (fun a ha => Or.inr (by rw [List.mem_singleton.mp ha, o3.1]; exact ⟨hN2.1, fun y => (by cases y), fun y => (by cases y)⟩)) (by omega)
    have k6 := k6.keep (D2 := [N]) g4 (fun x hx => Or.inr (Or.inl hx)) (fun x hx => Or.inl hx) (fun _ _ _ => rfl) (fun _ he => he) (Nat.le_refl _)
    have hr4 := D4.2.1.2.1
    have hk4 := D4.kc hi
    have hs4 := D4.1.2
    have ht4 := hs4.tk
    have hp4 := ht4.1.2.1
    have I4 := (D4.inn hi (by omega) (by omega)).nums
    refine ⟨hr4.1.1, hr4.1.2.1, C_takeS hst (c := b) hs4 hk4.1.1 (by omega) (fun q => by omega) (fun y s' hF => hbad 2 _ s' f4 ⟨(hcf2.trans k.cf).trans hF.1, hF.2⟩ (by omega) (by decide) (Or.inr (Or.inr ⟨⟨y1, y2⟩, ha91, Or.inr ⟨q3, p3, vs3, O3, c3, _, k2, k1, by omega, y, (if_neg hs4.2.1.2.2).symm, rfl⟩⟩))) (fun _ _ y => by omega) (fun q1 q2 _ s' y4 hF => hbad2 (tk ch n p3).2.2.2 vs3 O3 c3 _ s' f4 ⟨⟨y1, y2⟩, ha91, q3, p3, k2, k1, by omega, ⟨q1, q2⟩, rfl⟩ y4 ⟨(hcf2.trans k.cf).trans hF.1, hF.2⟩ (by omega) (by omega)) (fun q1 q2 _ s5 hcf5 hs5 => ⟨rfl, ?_⟩)⟩
    have hp5 := ht4.2.2.2.2 (by omega)
    have eo2 : (if b = 40 ∨ b = 91 ∨ b = 123 then oi + 1 else if b = 41 ∨ b = 93 ∨ b = 125 then oi - 1 else oi) = o := by
      rcases hab with ⟨-, h2, h3⟩ | ⟨-, h2, h3⟩
      · rw [if_neg (by omega), if_neg (by omega)]; exact h3
      · rw [if_neg (by omega), if_pos (by omega)]; omega
    rw [eo2] at hs5
    have D5 := D4.tok (u' := 1) hcf5 hs5 (by omega)
    refine hok (tk ch n p3).2.2.2 vs3 O3 c3 dC3 dA3 ca3 cap3 v s5 f3 f4 D5 ⟨⟨y1, y2⟩, ha91, q3, p3, k2, k1, by omega, ⟨q1, q2⟩, rfl⟩ ⟨k3, k9, g4, o4, v4⟩ k4 k5 (k6.imp (fun f' P F M nv' q => q.mono (by omega) (hN_le (by omega) (by omega)))) ⟨by omega, k8, by omega, by omega⟩
  · obtain ⟨k, pl, kF, kb, kk, kx⟩ := k
    exact hbad k pl s' f' ⟨hcf2.trans kF.1, kF.2⟩ kb kk (Or.inr (Or.inr ⟨⟨y1, y2⟩, ha91, Or.inl kx⟩))
end AS8
