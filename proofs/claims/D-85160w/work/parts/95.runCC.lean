/-! THE COMPONENT: a run: the first call; keep and back -/
/-- running, with no call under way -/
def cR0 (E : EN) (f0 : RH) (s0 : CS) (fuel : Nat) (Bb : Nat × Nat) (C : List Th) (sh : Nat → Option Th) (ct : Ct) (out : List Int32) (s : CS) (f : RH) : Prop :=
  cB E f0 s0 fuel Bb C [] [] sh ct out s f ∧ s.1 26 = nI C.length ∧ s.1 36 = nI 0 ∧ ct.2.1 ≤ 3000 ∧ f.2.1 ≤ Bb.1 + 3 * ct.2.1
theorem alast_none : ∀ {W : List Wy}, (∀ q ∈ W, ¬ q.1 = 2) → alast W = []
  | [], _ => rfl
  | q :: r, h => by
    show (if q.1 = 2 then _ else alast r) = []
    rw [if_neg (h q (List.mem_cons_self ..))]
    exact alast_none (fun p hp => h p (List.mem_cons_of_mem _ hp))
section CRa
variable {l : Launch} {E : EN} {w : CO} {d : Nat} {s s' s0 : CS} {f f' f0 : RH} {Q : KO → CS → RH → Prop} {fuel : Nat} {Bb : Nat × Nat} {P : Pg} {F : Nat → Nat} {C pl A : List Th} {fr : List Fm} {N : List Nat} {wy : List Wy} {sh sh' : Nat → Option Th} {ct ct' : Ct} {out out' : List Int32} {j n h u L p g M nv m k G : Nat} {z place : Int32} {v : Th} {fm : Fm}
theorem cR0.there (h : cR0 E f0 s0 fuel Bb C sh ct out s f) : cR0 E f0 s0 fuel Bb C sh ct out (uA s 29 m z) f := by
  have hA : ∀ j, ¬ j = 29 → (uA s 29 m z).2.2.1 j = s.2.2.1 j := fun j hj => by funext n; exact if_neg (fun c => hj c.1)
  obtain ⟨⟨h1, h2, h3, h4, h5, ⟨o1, o2⟩, ⟨k1, k2, k3, k4⟩, he⟩, g⟩ := h
  refine ⟨⟨⟨h1.1, h1.2.1, fun i hi => by rw [hA 24 (by decide)]; exact h1.2.2 i hi⟩, trivial, fun k hk => by rw [hA 46 (by decide), hA 42 (by decide)]; exact h3 k hk, h4, h5, ⟨o1, fun i hi h6 => by rw [hA 52 (by decide)]; exact o2 i hi h6⟩, ⟨k1, k2, fun j hj => by rw [hA j (fun c => hj (by rw [c]; decide))]; exact k3 j hj, k4⟩, he⟩, g⟩
theorem cR0.enter (h : cR0 E f0 s0 fuel Bb C sh ct out s f) (hnv : nv ≤ 14) (hv : ∀ k, k < nv → cVar E f (s.2.2.1 29 k) (s.2.2.1 27 k) (s.2.2.2 28 k) (fm.1 k)) : cR E f0 s0 fuel Bb C [fm] [nv] sh (ct.1, ct.2.1, max ct.2.2.1 1, ct.2.2.2) out (uI (uI s 36 (s.1 36 + 1)) 37 (if s.1 37 < s.1 36 + 1 then s.1 36 + 1 else s.1 37)) f := by
  obtain ⟨⟨h1, h2, h3, ⟨a1, a2, a3, a4, a5⟩, ⟨c1, c2, c3, c4⟩, o, ⟨k1, k2, k3, k4⟩, e⟩, g1, g2, g3, g4⟩ := h
  have e37 : (if s.1 37 < s.1 36 + 1 then s.1 36 + 1 else s.1 37) = nI (max ct.2.2.1 1) := by
    rw [a1, g2, nI_1]
    have hlt : nI ct.2.2.1 < nI (0 + 1) ↔ ct.2.2.1 < 1 := by rw [i32_lt (by omega), nI_toInt (by omega)]; omega
    by_cases c : ct.2.2.1 < 1
    · rw [if_pos (hlt.mpr c), Nat.max_eq_right (by omega)]
    · rw [if_neg (fun z => c (hlt.mp z)), Nat.max_eq_left (by omega)]
  refine ⟨⟨h1, ⟨⟨hnv, fun k hk => by have := hv k hk; show cVar E f (s.2.2.1 29 (14 * 0 + k)) (s.2.2.1 27 (14 * 0 + k)) (s.2.2.2 28 (14 * 0 + k)) _; rw [Nat.mul_zero, Nat.zero_add]; exact this⟩, trivial⟩, h3, ⟨e37, a2, a3, a4, a5⟩, ⟨c1, by show max ct.2.2.1 1 ≤ 10; omega, c3, c4⟩, o, ⟨fun j hj => ?_, k2, k3, k4⟩, e⟩, g1, ?_, g3, g4, Nat.le_refl 1, by show 1 ≤ 10; decide⟩
  · have n37 : ¬ j = 37 := fun c => hj (by rw [c]; decide)
    have n36 : ¬ j = 36 := fun c => hj (by rw [c]; decide)
    exact ((if_neg n37).trans (if_neg n36)).trans (k1 j hj)
  · show s.1 36 + 1 = nI 1
    rw [g2]; rfl
theorem cR.leave0 (h : cR E f0 s0 fuel Bb C [fm] [nv] sh ct out s f) : cR0 E f0 s0 fuel Bb C sh ct out (uI s 36 (s.1 36 - 1)) f := by
  obtain ⟨⟨h1, h2, h3, ⟨a1, a2, a3, a4, a5⟩, c, o, ⟨k1, k2, k3, k4⟩, e⟩, g1, g2, g3, g4, g5⟩ := h
  refine ⟨⟨h1, trivial, h3, ⟨a1, a2, a3, a4, a5⟩, c, o, ⟨fun j hj => ?_, k2, k3, k4⟩, e⟩, g1, ?_, g3, g4⟩
  · exact (if_neg (fun c => hj (by rw [c]; decide))).trans (k1 j hj)
  · show s.1 36 - 1 = nI 0
    rw [g2]; exact nI_pred 0
/-- what is left of a run in trouble -/
def oE (E : EN) (f0 : RH) (s0 : CS) (fuel : Nat) (Bb : Nat × Nat) (P : Pg) (σ : AS) (s' : CS) (f' : RH) : Prop := ∃ (pc : Nat) (pl : List Th) (fr : List Fm) (wy : List Wy) (sh2 sh' : Nat → Option Th) (ct' : Ct) (out' : List Int32) (tr : Nat × Int32 × Int32), aRch P fuel σ (pc, pl, fr, wy, sh2, ct', out', tr) ∧ 1 ≤ tr.1 ∧ tr.1 ≤ 11 ∧ cT E f0 s0 fuel Bb [] [] [] sh' ct' out' tr s' f'
theorem oT.fin {σ : AS} (h : oT E f0 s0 fuel Bb P σ [] [] [] [] [] s' f') : oE E f0 s0 fuel Bb P σ s' f' := by
  obtain ⟨σ1, pc, pl', fr1, frB, wy', sh1, ct1, out1, tr, h1, h2, h3, h4, h4b, h5⟩ := h
  have hfB : frB = [] := by
    match frB, h4 with
    | [], _ => rfl
  subst hfB
  rcases h5 with ⟨g1, g2, g3, g4, g5, ex, rfl, g7⟩ | ⟨g1, g2, sh2, g3⟩
  · refine ⟨pc, pl', fr1, ex ++ [], sh1, sh1, ct1, out1, tr, h1.trans (aRch.one h2 ?_), g1, by omega, h3⟩
    unfold stA
    rw [g3, if_neg (by show ¬ tr.1 = 0; omega)]
    unfold takeA
    dsimp only
    have e9 : ¬ 9 < tr.1 := by omega
    rw [if_neg e9, List.append_nil, alast_none g7]
  · exact ⟨pc, pl', fr1, wy', sh2, sh1, ct1, out1, tr, h1.trans (aRch.one h2 g3), by omega, g2, h3⟩
theorem C_callTop (hst : l.stackTraces = false) {bk : Nat} (hfn : FnR f0 P F M G) (hj : j < M) (hnp : (P.2 j).1 = 0) (ihb : XSp l E w f0 s0 fuel Bb P F M 9 G) (hd : KD 9 G + 1 ≤ d) (hR : cR0 E f0 s0 fuel Bb [] sh (0, 0, 0, 0) out s f) (hok : ∀ v sh' ct' out' s' f', aRch P fuel ((P.2 j).2, [], [(avars [], 0, bk, 0)], [], sh, (0, 0, 1, 0), out, (0, -1, 0)) (bk, [v], [], [], sh', ct', out', (0, -1, 0)) → cR0 E f0 s0 fuel Bb [v] sh' ct' out' s' f' → Q (.inl none) s' f') (htr : ∀ s' f', oE E f0 s0 fuel Bb P ((P.2 j).2, [], [(avars [], 0, bk, 0)], [], sh, (0, 0, 1, 0), out, (0, -1, 0)) s' f' → Q (.inr 9) s' f') : EvC l E w d MX3_call [.ref (w.1 3), .ref (F j), .int place] s f Q := by
  obtain ⟨nv, e, u, h2, x, y, x2, y2, z, z2, z3, b1, b2, b3, b4, b5, b6, b7, b8, b9, b10, b11⟩ := hfn j hj
  rw [hnp] at b3 b5
  obtain ⟨d, rfl⟩ : ∃ d', d = d' + 1 := ⟨d - 1, by omega⟩
  have hF : Frz f0 f := hR.1.2.2.2.2.2.2.2.2.2.1
  have ho := hF.ocE b1 b2
  have h155 : vl f (F j) 155 = .int (nI 0) := by rw [hF.vlE b1]; exact b3
  have h156 : vl f (F j) 156 = .int (nI nv) := by rw [hF.vlE b1]; exact b4
  have hpre0 : aPre [] [] ([] : List Fm) [] 700 38 9 := ⟨fun t ht => absurd ht List.not_mem_nil, by decide, by decide, by decide, fun q hq => absurd hq List.not_mem_nil⟩
  have go : ∀ s1 : CS, cR0 E f0 s0 fuel Bb [] sh (0, 0, 0, 0) out s1 f → (∀ i, i < nv → s1.2.2.1 29 i = 0) → ExC l E w (d + 1) MX3_call 74 [some (.ref (w.1 3)), some (.ref (F j)), none, some (.int (nI 0)), some (.int (nI 0 - 1))] [] s1 f Q := by
    intro s1 hR1 ht
    have hent := hR1.enter (nv := nv) (fm := (avars [], 0, bk, 0)) b6 (fun k hk => by rw [ht k hk]; exact (rfl : (0 : Int32) = 0))
    have hpreB : aPre [] [] [(avars [], 0, bk, 0)] [] h2 (u + 1) 9 := ⟨fun t ht => absurd ht List.not_mem_nil, by show 0 + h2 + 700 * 9 ≤ 8000; omega, by show 0 + h2 + 720 * 9 ≤ 8300; omega, by show 0 + (u + 1) + 38 * 9 ≤ 389; omega, fun q hq => absurd hq List.not_mem_nil⟩
    obtain ⟨p1, e1, o1, hw1⟩ := ihb nv _ (P.2 j).2 e u h2 b7 d _ f [] [] _ [nv] [] sh _ out (by omega) (by rfl) rfl hpreB hent (fun o s9 f10 => KP o (fun r => ∃ v11 : Int32, r = some (.int v11) ∧ ((¬ v11 = 0 → Q (.inl none) (uI s9 36 ((s9.1 36) - 1)) f10) ∧ (v11 = 0 → (EvC l E w d MX3_push [.ref (w.1 3), .int 0] s9 f10 (fun o s12 f13 => KP o (fun r => r = none ∧ Q (.inl none) (uI s12 36 ((s12.1 36) - 1)) f13) (fun k => Q (.inr k) s12 f13)))))) (fun k => Q (.inr k) s9 f10)) (fun o s9 f10 k => by
        rcases k with ⟨rfl, fr4, sh4, ct4, out4, k1, k2, k3, k4⟩ | ⟨rfl, t, v, fr4, ex, sh4, ct4, out4, k1, k2, k3, k3b, k4, k5⟩ | ⟨rfl, k⟩
        · obtain ⟨fm2, rfl, hfm⟩ := k1.cons
          refine ⟨_, rfl, fun z => absurd rfl z, fun _ => C_push hst k4.2.1 (by show 0 < 8400; decide) ⟨rfl, hok (zI 0) sh4 ct4 out4 _ _ (k3.trans ((int_ok (hpreB.frs (by rfl)) k4.2.2.2.2.2 k4.2.2.2.1 b10).trans (gives_ok (ex := []) (fr := []) hpre0 (by show 0 < 10; decide) trivial k4.2.2.2.1 (by rw [b11]) (by show 0 + 0 ≤ 389; decide) hfm))) ?_⟩⟩
          refine cR.leave0 (fm := fm2) (nv := nv) ?_
          exact k4.push (by show 0 + 1 ≤ 8380; decide) (cpsh_fr JC s9 _ _ (Nat.le_refl _)) rfl rfl (by rw [cpsh_n]; exact if_pos rfl) (by rw [cpsh_t]; exact if_pos rfl) ⟨rfl, rfl⟩ trivial
        · obtain ⟨fm2, rfl, hfm⟩ := k1.cons
          have hv := (cR.hi (C := []) k5).2.2.2
          refine ⟨_, rfl, fun _ => hok v sh4 ct4 out4 _ _ (k4.trans (gives_ok (fr := []) hpre0 (by show 0 < 10; decide) hv k5.2.2.2.1 k3 k3b hfm)) k5.leave0, fun z => absurd z (by decide)⟩
        · exact htr _ _ (oT.fin k.ret))
    exact vX3_call_74 ⟨fun _ => ⟨ho, p1, by rw [hF.vlE b1]; exact e1, o1, hw1⟩, fun c => absurd (by decide) c⟩
  have e36 : s.1 36 = nI 0 := hR.2.2.1
  refine eX3_call hst ⟨fun c y1 ey1 => ?_, fun c => ?_⟩
  · rw [e36] at ey1
    have e0 : y1 = nI 0 := by rw [ey1]; rfl
    subst e0
    refine dn (P := fun k => ∀ s1 : CS, cR0 E f0 s0 fuel Bb [] sh (0, 0, 0, 0) out s1 f → (∀ i, i < k → s1.2.2.1 29 i = 0) → ExC l E w (d + 1) MX3_call 28 [some (.ref (w.1 3)), some (.ref (F j)), none, some (.int (nI 0)), some (.int (nI k))] [] s1 f Q) nv ?_ (fun k hk ih => ?_) s hR (fun i hi => absurd hi (Nat.not_lt_zero i))
    · intro s1 hR1 ht
      refine vX3_call_28 ⟨ho, nI nv, h156, pk_le nv nv (fun _ => ⟨ho, nI 0, h155, fun y6 ey6 => ?_⟩) (fun c => by omega) rfl rfl⟩
      rw [ey6]
      exact go s1 hR1 ht
    · intro s1 hR1 ht
      have e0 : nI 0 + nI k = nI k := by rw [nI_add, Nat.zero_add]
      refine vX3_call_28 ⟨ho, nI nv, h156, pk_le nv k (fun c => by omega) (fun _ => ⟨ho, nI 0, h155, pk_le 0 k (fun _ => ⟨by rw [e0]; exact inB_n (by omega), ?_⟩) (fun c => by omega) rfl rfl⟩) rfl rfl⟩
      rw [e0, nI_clamp (n := k) (by omega), nI_1]
      refine ih _ hR1.there (fun i hi => ?_)
      have h29 : (uA s1 29 k 0).2.2.1 29 i = if 29 = 29 ∧ i = k then 0 else s1.2.2.1 29 i := rfl
      rw [h29]
      by_cases e : i = k
      · rw [if_pos ⟨rfl, e⟩]
      · rw [if_neg (fun z => e z.2)]; exact ht i (by omega)
  · rw [e36] at c; exact absurd c (by decide)
end CRa
/-- what is kept at a place -/
def kpR (n : Nat) (s s' : CS) : Prop := s'.1 = s.1 ∧ s'.2.1 = s.2.1 ∧ (∀ i k, (¬ (i = 43 ∨ i = 47) ∨ k < 8 * n ∨ 8 * n + 8 ≤ k) → s'.2.2.1 i k = s.2.2.1 i k) ∧ (∀ i k, (¬ i = 45 ∨ k < 8 * n ∨ 8 * n + 8 ≤ k) → s'.2.2.2 i k = s.2.2.2 i k) ∧ ∀ k, k < 8 → s'.2.2.1 43 (8 * n + k) = s.2.2.1 42 k ∧ s'.2.2.1 47 (8 * n + k) = s.2.2.1 46 k ∧ s'.2.2.2 45 (8 * n + k) = s.2.2.2 44 k
/-- it comes back -/
def bkR (n : Nat) (s s' : CS) : Prop := s'.1 = s.1 ∧ s'.2.1 = s.2.1 ∧ (∀ i k, (¬ (i = 42 ∨ i = 46) ∨ 8 ≤ k) → s'.2.2.1 i k = s.2.2.1 i k) ∧ (∀ i k, (¬ i = 44 ∨ 8 ≤ k) → s'.2.2.2 i k = s.2.2.2 i k) ∧ ∀ k, k < 8 → s'.2.2.1 42 k = s.2.2.1 43 (8 * n + k) ∧ s'.2.2.1 46 k = s.2.2.1 47 (8 * n + k) ∧ s'.2.2.2 44 k = s.2.2.2 45 (8 * n + k)
theorem uC_at (s : CS) (j j' sp dp n i k : Nat) : (uC s j j' sp dp n).2.2.1 i k = if i = j' ∧ dp ≤ k ∧ k < dp + n then s.2.2.1 j (sp + (k - dp)) else s.2.2.1 i k := rfl
theorem fits_b {v : Int32} (h : v = 0 ∨ v = 1) : fits (AT 3) (.int v) = true := by rcases h with rfl | rfl <;> rfl
section CRb
variable {l : Launch} {E : EN} {w : CO} {d : Nat} {s : CS} {f : RH} {Q : KO → CS → RH → Prop} {n : Nat}
theorem C_keep (hst : l.stackTraces = false) (hn : n ≤ 6) (hok : ∀ k, k < 8 → okc f (s.2.2.2 44 k) ∧ (s.2.2.1 46 k = 0 ∨ s.2.2.1 46 k = 1)) (hQ : ∀ s', kpR n s s' → Q (.inl none) s' f) : EvC l E w (d + 1) MX4_keep [.ref (w.1 4), .int (nI n)] s f Q := by
  have e8 : (8 : Int32) * nI n = nI (8 * n) := by rw [show (8 : Int32) = nI 8 from rfl, pk_mul]
  have c8 : (8 : Int32).toNatClampNeg = 8 := by decide
  have c0 : (0 : Int32).toNatClampNeg = 0 := by decide
  refine eX4_keep hst ?_
  rw [e8, nI_clamp (n := 8 * n) (by omega), c8, c0]
  refine ⟨by decide, i32_nn _ (by omega), by decide, by decide, by omega, fun i hi => rfl, by decide, i32_nn _ (by omega), by decide, by decide, by omega, fun i hi => ?_, ?_⟩
  · rw [uC_at, if_neg (fun z => absurd z.1 (by decide)), Nat.zero_add]
    exact fits_b (hok i hi).2
  · have r1 : ∀ i k, (uC (uC s 42 43 0 (8 * n) 8) 46 47 0 (8 * n) 8).2.2.1 i k = if i = 47 ∧ 8 * n ≤ k ∧ k < 8 * n + 8 then s.2.2.1 46 (k - 8 * n) else if i = 43 ∧ 8 * n ≤ k ∧ k < 8 * n + 8 then s.2.2.1 42 (k - 8 * n) else s.2.2.1 i k := by
      intro i k
      have e1 : (uC s 42 43 0 (8 * n) 8).2.2.1 46 (0 + (k - 8 * n)) = s.2.2.1 46 (k - 8 * n) := by rw [uC_at, if_neg (fun z => absurd z.1 (by decide)), Nat.zero_add]
      rw [uC_at, e1, uC_at, Nat.zero_add]
    generalize hs1 : uC (uC s 42 43 0 (8 * n) 8) 46 47 0 (8 * n) 8 = s1 at r1
    have q1 : s1.1 = s.1 := by rw [← hs1]; rfl
    have q2 : s1.2.1 = s.2.1 := by rw [← hs1]; rfl
    have q3 : s1.2.2.2 = s.2.2.2 := by rw [← hs1]; rfl
    refine dn (P := fun k => ∀ s2 : CS, s2.1 = s.1 → s2.2.1 = s.2.1 → s2.2.2.1 = s1.2.2.1 → (∀ i m, (¬ i = 45 ∨ m < 8 * n ∨ 8 * n + k ≤ m) → s2.2.2.2 i m = s.2.2.2 i m) → (∀ m, m < k → s2.2.2.2 45 (8 * n + m) = s.2.2.2 44 m) → ExC l E w (d + 1) MX4_keep 38 [some (.ref (w.1 4)), some (.int (nI n)), some (.int (nI k))] [] s2 f Q) 8 ?_ (fun k hk ih => ?_) s1 q1 q2 rfl (fun i m _ => by rw [q3]) (fun m hm => absurd hm (Nat.not_lt_zero m))
    · intro s2 p1 p2 p3 p4 p5
      refine vX4_keep_38 (pk_le 8 8 (fun _ => hQ s2 ⟨p1, p2, fun i k h => ?_, p4, fun k hk => ⟨?_, ?_, p5 k hk⟩⟩) (fun c => by omega) rfl rfl)
      · rw [p3, r1, if_neg (fun z => by omega), if_neg (fun z => by omega)]
      · rw [p3, r1, if_neg (fun z => absurd z.1 (by decide)), if_pos ⟨rfl, by omega, by omega⟩, show 8 * n + k - 8 * n = k by omega]
      · rw [p3, r1, if_pos ⟨rfl, by omega, by omega⟩, show 8 * n + k - 8 * n = k by omega]
    · intro s2 p1 p2 p3 p4 p5
      have hc := (hok k hk).1
      have e44 : s2.2.2.2 44 k = s.2.2.2 44 k := p4 44 k (Or.inl (by decide))
      refine vX4_keep_38 (pk_le 8 k (fun c => by omega) (fun _ => ⟨inB_n hk, s.2.2.2 44 k, by rw [nI_clamp (n := k) (by omega)]; exact e44, hc.1, ?_⟩) rfl rfl)
      rw [e8, nI_add, nI_clamp (n := 8 * n + k) (by omega), nI_1]
      refine ⟨inB_n (by omega), hc.2.1, ih _ p1 p2 p3 (fun i m h => ?_) (fun m hm => ?_)⟩
      · show (if i = 45 ∧ m = 8 * n + k then _ else s2.2.2.2 i m) = _
        rw [if_neg (fun z => by omega)]
        exact p4 i m (by omega)
      · show (if 45 = 45 ∧ 8 * n + m = 8 * n + k then s.2.2.2 44 k else s2.2.2.2 45 (8 * n + m)) = _
        by_cases e : m = k
        · rw [if_pos ⟨rfl, by omega⟩, e]
        · rw [if_neg (fun z => by omega)]; exact p5 m (by omega)
theorem C_backS (hst : l.stackTraces = false) (hn : n ≤ 6) (hok : ∀ k, k < 8 → okc f (s.2.2.2 45 (8 * n + k)) ∧ (s.2.2.1 47 (8 * n + k) = 0 ∨ s.2.2.1 47 (8 * n + k) = 1)) (hQ : ∀ s', bkR n s s' → Q (.inl none) s' f) : EvC l E w (d + 1) MX4_back [.ref (w.1 4), .int (nI n)] s f Q := by
  have e8 : (8 : Int32) * nI n = nI (8 * n) := by rw [show (8 : Int32) = nI 8 from rfl, pk_mul]
  have c8 : (8 : Int32).toNatClampNeg = 8 := by decide
  have c0 : (0 : Int32).toNatClampNeg = 0 := by decide
  refine eX4_back hst ?_
  rw [e8, nI_clamp (n := 8 * n) (by omega), c8, c0]
  refine ⟨i32_nn _ (by omega), by decide, by decide, by omega, by decide, fun i hi => rfl, i32_nn _ (by omega), by decide, by decide, by omega, by decide, fun i hi => ?_, ?_⟩
  · rw [uC_at, if_neg (fun z => absurd z.1 (by decide))]
    exact fits_b (hok i hi).2
  · have r1 : ∀ i k, (uC (uC s 43 42 (8 * n) 0 8) 47 46 (8 * n) 0 8).2.2.1 i k = if i = 46 ∧ k < 8 then s.2.2.1 47 (8 * n + k) else if i = 42 ∧ k < 8 then s.2.2.1 43 (8 * n + k) else s.2.2.1 i k := by
      intro i k
      have e1 : (uC s 43 42 (8 * n) 0 8).2.2.1 47 (8 * n + (k - 0)) = s.2.2.1 47 (8 * n + k) := by rw [uC_at, if_neg (fun z => absurd z.1 (by decide)), Nat.sub_zero]
      rw [uC_at, e1, uC_at, Nat.sub_zero]
      by_cases c1 : i = 46 ∧ k < 8
      · rw [if_pos ⟨c1.1, Nat.zero_le _, by omega⟩, if_pos c1]
      · rw [if_neg (fun z => c1 ⟨z.1, by omega⟩), if_neg c1]
        by_cases c2 : i = 42 ∧ k < 8
        · rw [if_pos ⟨c2.1, Nat.zero_le _, by omega⟩, if_pos c2]
        · rw [if_neg (fun z => c2 ⟨z.1, by omega⟩), if_neg c2]
    generalize hs1 : uC (uC s 43 42 (8 * n) 0 8) 47 46 (8 * n) 0 8 = s1 at r1
    have q1 : s1.1 = s.1 := by rw [← hs1]; rfl
    have q2 : s1.2.1 = s.2.1 := by rw [← hs1]; rfl
    have q3 : s1.2.2.2 = s.2.2.2 := by rw [← hs1]; rfl
    refine dn (P := fun k => ∀ s2 : CS, s2.1 = s.1 → s2.2.1 = s.2.1 → s2.2.2.1 = s1.2.2.1 → (∀ i m, (¬ i = 44 ∨ k ≤ m) → s2.2.2.2 i m = s.2.2.2 i m) → (∀ m, m < k → s2.2.2.2 44 m = s.2.2.2 45 (8 * n + m)) → ExC l E w (d + 1) MX4_back 38 [some (.ref (w.1 4)), some (.int (nI n)), some (.int (nI k))] [] s2 f Q) 8 ?_ (fun k hk ih => ?_) s1 q1 q2 rfl (fun i m _ => by rw [q3]) (fun m hm => absurd hm (Nat.not_lt_zero m))
    · intro s2 p1 p2 p3 p4 p5
      refine vX4_back_38 (pk_le 8 8 (fun _ => hQ s2 ⟨p1, p2, fun i k h => ?_, p4, fun k hk => ⟨?_, ?_, p5 k hk⟩⟩) (fun c => by omega) rfl rfl)
      · rw [p3, r1, if_neg (fun z => by omega), if_neg (fun z => by omega)]
      · rw [p3, r1, if_neg (fun z => absurd z.1 (by decide)), if_pos ⟨rfl, hk⟩]
      · rw [p3, r1, if_pos ⟨rfl, hk⟩]
    · intro s2 p1 p2 p3 p4 p5
      have hc := (hok k hk).1
      have e45 : s2.2.2.2 45 (8 * n + k) = s.2.2.2 45 (8 * n + k) := p4 45 _ (Or.inl (by decide))
      refine vX4_back_38 (pk_le 8 k (fun c => by omega) (fun _ => ?_) rfl rfl)
      rw [e8, nI_add, nI_clamp (n := 8 * n + k) (by omega), nI_clamp (n := k) (by omega), nI_1]
      refine ⟨inB_n (by omega), s.2.2.2 45 (8 * n + k), e45, hc.1, inB_n hk, hc.2.1, ih _ p1 p2 p3 (fun i m h => ?_) (fun m hm => ?_)⟩
      · show (if i = 44 ∧ m = k then _ else s2.2.2.2 i m) = _
        rw [if_neg (fun z => by omega)]
        exact p4 i m (by omega)
      · show (if 44 = 44 ∧ m = k then s.2.2.2 45 (8 * n + k) else s2.2.2.2 44 m) = _
        by_cases e : m = k
        · rw [if_pos ⟨rfl, e⟩, e]
        · rw [if_neg (fun z => e z.2)]; exact p5 m (by omega)
end CRb
