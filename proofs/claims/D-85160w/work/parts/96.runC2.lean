/-! THE COMPONENT: run -/
/-- the program that is there -/
def cPr (f : RH) (s : CS) (many : Nat) (D : Nat → Nat) : Prop := ∃ r a t : Nat, s.2.1 6 = .ref r ∧ oc f r 11 ∧ vl f r 149 = .int (nI many) ∧ many ≤ 12 ∧ vl f r 148 = .ref a ∧ 4 ≤ t ∧ tg f a = some (.inr t) ∧ many ≤ ln f a ∧ ∀ k, k < many → vl f a k = .ref (D k)
/-- what a run leaves -/
def cEnd (E : EN) (s : CS) (f : RH) (s' : CS) (f' : RH) (sh : Nat → Option Th) (ct : Ct) (out : List Int32) (tr : Nat × Int32 × Int32) : Prop :=
  (Frz f f' ∧ ez E ≤ f'.2.2.2 ∧ f'.2.2.2 ≤ f'.1 ∧ f'.2.1 ≤ f.2.1 + 11000) ∧ (∀ k, k < 8 → cSv E f' (s'.2.2.1 46 k) (s'.2.2.1 42 k) (s'.2.2.2 44 k) (sh k)) ∧ (s'.1 38 = nI ct.1 ∧ s'.1 40 = nI ct.2.1 ∧ s'.1 37 = nI ct.2.2.1 ∧ s'.1 41 = nI ct.2.2.2) ∧ (s'.1 54 = nI tr.1 ∧ s'.1 55 = tr.2.1 ∧ s'.1 56 = tr.2.2 ∧ s'.1 7 = 1) ∧ cOut s' out ∧ (∀ j, j ∉ [7, 26, 36, 37, 38, 39, 40, 41, 53, 54, 55, 56] → s'.1 j = s.1 j) ∧ s'.2.1 = s.2.1 ∧ (∀ j, j ∉ [24, 27, 29, 42, 46, 52, 43, 47] → s'.2.2.1 j = s.2.2.1 j) ∧ (∀ j, j ∉ [25, 28, 44, 45] → s'.2.2.2 j = s.2.2.2 j) ∧ (∀ k, k < 48 → s'.2.2.1 43 k = s.2.2.1 43 k ∧ s'.2.2.1 47 k = s.2.2.1 47 k ∧ s'.2.2.2 45 k = s.2.2.2 45 k) ∧ (ct.1 ≤ 20000 ∧ ct.2.1 ≤ 3400 ∧ ct.2.2.1 ≤ 10 ∧ ct.2.2.2 ≤ 20)
def cBegS (s : CS) (fu : Int32) : CS := uI (uI (uI (uI (uI (uI (uI (uI (uI (uI (uI s 26 0) 36 0) 37 0) 38 0) 39 fu) 40 0) 41 0) 53 0) 54 0) 55 (-1)) 56 0
theorem cBegS_i (s : CS) (fu : Int32) {j : Nat} (h : j ∉ [7, 26, 36, 37, 38, 39, 40, 41, 53, 54, 55, 56]) : (cBegS s fu).1 j = s.1 j := by
  simp only [List.mem_cons, List.not_mem_nil, or_false, not_or] at h
  unfold cBegS
  rw [uI_ne _ _ (by omega), uI_ne _ _ (by omega), uI_ne _ _ (by omega), uI_ne _ _ (by omega), uI_ne _ _ (by omega), uI_ne _ _ (by omega), uI_ne _ _ (by omega), uI_ne _ _ (by omega), uI_ne _ _ (by omega), uI_ne _ _ (by omega), uI_ne _ _ (by omega)]
section CRc
variable {l : Launch} {E : EN} {w : CO} {d : Nat} {s s0 : CS} {f : RH} {Q : KO → CS → RH → Prop} {fuel : Nat} {P : Pg} {F : Nat → Nat} {sh : Nat → Option Th} {j n M G many : Nat} {D : Nat → Nat}
theorem C_def (hst : l.stackTraces = false) {i : Nat} (hp : cPr f s many D) (hi : i < many) (hQ : Q (.inl (some (.ref (D i)))) s f) : EvC l E w d MX0_definition [.ref (w.1 0), .int (nI i)] s f Q := by
  obtain ⟨r, a, t, p1, p2, p3, p4, p5, p6, p7, p8, p9⟩ := hp
  refine eX0_definition hst ⟨.ref r, p1, rfl, fun e => (by cases e), fun a2 e2 => ⟨fun c => absurd c (i32_nn i (by omega)), fun _ => ⟨.ref r, p1, rfl, r, rfl, p2, nI many, p3, ?_⟩⟩⟩
  have hlt : nI i < nI many := by rw [Int32.lt_iff_toInt_lt, nI_toInt (by omega), nI_toInt (by omega)]; omega
  refine ⟨fun _ => ⟨.ref r, p1, rfl, r, rfl, p2, a, p5, t, p6, p7, inB_k (by omega) (by omega), D i, by rw [nI_clamp (n := i) (by omega)]; exact p9 i hi, hQ⟩, fun c => absurd hlt c⟩
theorem C_run (hst : l.stackTraces = false) {f0 bk : Nat} {x : Option Nat} (hp : cPr f s many D) (hf0 : f0 < many) (hD : D f0 = F j) (hfn : FnR f P F M G) (hG : G ≤ 75) (hj : j < M) (hnp : (P.2 j).1 = 0) (hx : ∀ k, x = some k → k < 8) (hf1 : 1 ≤ fuel) (hf2 : fuel ≤ 20000) (hz : ez E ≤ f.2.2.2) (hcb : f.2.2.2 ≤ f.1) (hroom : f.2.1 + 20000 ≤ BM) (hd : 1010 ≤ d) (hsh : ∀ k, k < 8 → cSv E f (s.2.2.1 46 k) (s.2.2.1 42 k) (s.2.2.2 44 k) (sh k))
    (hok : ∀ v sh' ct out s' f', aRch P fuel ((P.2 j).2, [], [(avars [], 0, bk, 0)], [], sh, (0, 0, 1, 0), [], (0, -1, 0)) (bk, [v], [], [], sh', ct, out, (0, -1, 0)) → ZW v → ct.2.1 ≤ 3000 → cEnd E s f s' f' (aShf sh' x v) ct out (0, -1, 0) → Q (.inl (some (.int 0))) s' f')
    (htr : ∀ pc pl fr wy sh2 ct out tr s' f', aRch P fuel ((P.2 j).2, [], [(avars [], 0, bk, 0)], [], sh, (0, 0, 1, 0), [], (0, -1, 0)) (pc, pl, fr, wy, sh2, ct, out, tr) → 1 ≤ tr.1 → tr.1 ≤ 11 → cEnd E s f s' f' sh ct out tr → Q (.inl (some (.int (nI tr.1)))) s' f') : EvC l E w (d + 1) MX0_run [.ref (w.1 0), .int (nI f0), .int (xShf x), .int (nI fuel)] s f Q := by
  obtain ⟨d, rfl⟩ : ∃ d', d = d' + 2 := ⟨d - 2, by omega⟩
  have hF : FnR f P F M G := hfn
  obtain ⟨nv, e, u, h2, x', y, x2, y2, z, z2, z3, b1, b2, b3, b4, b5, b6, b7, b8, b9, b10, b11⟩ := hfn j hj
  have hdone : ∀ (C : List Th) (sh' : Nat → Option Th) (ct : Ct) (out : List Int32) (tr : Nat × Int32 × Int32) (s1 s2 : CS) (f1 : RH), kpR 6 (cBegS s (nI fuel)) s1 → cB E f (uI s1 7 1) fuel (f.2.1, 0) C [] [] sh' ct out s2 f1 → ct.2.1 ≤ 3400 → f1.2.1 ≤ f.2.1 + 11000 → ∀ s3 : CS, (∀ j, j ∉ [26, 54, 55, 56] → s3.1 j = s2.1 j) → (s3.1 54 = nI tr.1 ∧ s3.1 55 = tr.2.1 ∧ s3.1 56 = tr.2.2) → s3.2.1 = s2.2.1 → (∀ j, j ∉ [42, 46] → s3.2.2.1 j = s2.2.2.1 j) → (∀ j, ¬ j = 44 → s3.2.2.2 j = s2.2.2.2 j) → ∀ shE : Nat → Option Th, (∀ k, k < 8 → cSv E f1 (s3.2.2.1 46 k) (s3.2.2.1 42 k) (s3.2.2.2 44 k) (shE k)) → cEnd E s f s3 f1 shE ct out tr := by
    intro C sh' ct out tr s1 s2 f1 hk hB hm hb s3 g1 g2 g3 g4 g5 shE g6
    obtain ⟨q1, q2, q3, q4, q5⟩ := hk
    obtain ⟨c1, c2, c3, ⟨a1, a2, a3, a4, a5⟩, ⟨e1, e2, e3, e4⟩, ⟨o1, o2⟩, ⟨k1, k2, k3, k4⟩, ⟨r1, r2, r3, r4, r5⟩⟩ := hB
    refine ⟨⟨r3, r1, r2, hb⟩, g6, ⟨(g1 38 (by decide)).trans a2, (g1 40 (by decide)).trans a4, (g1 37 (by decide)).trans a1, (g1 41 (by decide)).trans a5⟩, ⟨g2.1, g2.2.1, g2.2.2, ?_⟩, ⟨(g1 53 (by decide)).trans o1, fun i h1 h2 => by rw [g4 52 (by decide)]; exact o2 i h1 h2⟩, fun j hj => ?_, ?_, fun j hj => ?_, fun j hj => ?_, fun k hk => ⟨?_, ?_, ?_⟩, ⟨by omega, hm, e2, by omega⟩⟩
    · rw [g1 7 (by decide), k1 7 (by decide)]; rfl
    · have hj7 : ¬ j = 7 := fun c => hj (by rw [c]; decide)
      rw [g1 j (fun c => hj ((by decide : ∀ j ∈ [26, 54, 55, 56], j ∈ [7, 26, 36, 37, 38, 39, 40, 41, 53, 54, 55, 56]) j c)), k1 j (fun c => hj ((by decide : ∀ j ∈ [26, 36, 37, 38, 40, 41, 53, 54, 55, 56], j ∈ [7, 26, 36, 37, 38, 39, 40, 41, 53, 54, 55, 56]) j c)), uI_ne _ _ hj7, q1]
      exact cBegS_i s _ hj
    · rw [g3, k2]; exact q2
    · rw [g4 j (fun c => hj ((by decide : ∀ j ∈ [42, 46], j ∈ [24, 27, 29, 42, 46, 52, 43, 47]) j c)), k3 j (fun c => hj ((by decide : ∀ j ∈ [24, 27, 29, 42, 46, 52], j ∈ [24, 27, 29, 42, 46, 52, 43, 47]) j c))]
      funext i
      have h43 : ¬ j = 43 := fun c => hj (by rw [c]; decide)
      have h47 : ¬ j = 47 := fun c => hj (by rw [c]; decide)
      exact q3 j i (Or.inl (by omega))
    · rw [g5 j (fun c => hj (by rw [c]; decide)), k4 j (fun c => hj ((by decide : ∀ j ∈ [25, 28, 44], j ∈ [25, 28, 44, 45]) j c))]
      funext i
      have h45 : ¬ j = 45 := fun c => hj (by rw [c]; decide)
      exact q4 j i (Or.inl h45)
    · rw [g4 43 (by decide), k3 43 (by decide)]; exact q3 43 k (Or.inr (Or.inl (by omega)))
    · rw [g4 47 (by decide), k3 47 (by decide)]; exact q3 47 k (Or.inr (Or.inl (by omega)))
    · rw [g5 45 (by decide), k4 45 (by decide)]; exact q4 45 k (Or.inr (Or.inl (by omega)))
  have body : ∀ {d : Nat}, 1005 ≤ d → EvC l E w d MX3_begin [.ref (w.1 3), .int (nI fuel)] s f (fun o s6 f7 => KP o (fun r => r = none ∧ (EvC l E w d MX4_keep [.ref (w.1 4), .int 6] s6 f7 (fun o s8 f9 => KP o (fun r => r = none ∧ (EvC l E w d MX3_call [.ref (w.1 3), .ref (F j), .int (-1)] (uI s8 7 1) f9 (fun o s10 f11 => KP o (fun r => r = none ∧ ((¬ xShf x = (-1) → (EvC l E w d MX3_put [.ref (w.1 3), .int (xShf x)] s10 f11 (fun o s12 f13 => KP o (fun r => r = none ∧ (EvC l E w d MX3_wrong [.ref (w.1 3), .int 0, .int (-1)] s12 f13 (fun o s14 f15 => KP o (fun r => r = some (.ref (w.1 9)) ∧ Q (.inl (some (.int (s14.1 54)))) s14 f15) (fun k => Q (.inr k) s14 f15)))) (fun k => Q (.inr k) s12 f13)))) ∧ (xShf x = (-1) → (EvC l E w d MX3_drop [.ref (w.1 3)] s10 f11 (fun o s16 f17 => KP o (fun r => r = none ∧ (EvC l E w d MX3_wrong [.ref (w.1 3), .int 0, .int (-1)] s16 f17 (fun o s18 f19 => KP o (fun r => r = some (.ref (w.1 9)) ∧ Q (.inl (some (.int (s18.1 54)))) s18 f19) (fun k => Q (.inr k) s18 f19)))) (fun k => Q (.inr k) s16 f17)))))) (fun k => (k = 9 ∧ (EvC l E w d MX4_back [.ref (w.1 4), .int 6] s10 f11 (fun o s20 f21 => KP o (fun r => r = none ∧ Q (.inl (some (.int (s20.1 54)))) s20 f21) (fun k => Q (.inr k) s20 f21)))))))) (fun k => Q (.inr k) s8 f9)))) (fun k => Q (.inr k) s6 f7)) := by
    intro d hd
    obtain ⟨d, rfl⟩ : ∃ d', d = d' + 3 := ⟨d - 3, by omega⟩
    refine eX3_begin hst ⟨rfl, ?_⟩
    refine C_keep (n := 6) hst (Nat.le_refl _) (fun k hk => (hsh k hk).ok) (fun s1 hk => ⟨rfl, ?_⟩)
    obtain ⟨q1, q2, q3, q4, q5⟩ := id hk
    have h46 : s1.2.2.1 46 = s.2.2.1 46 := by funext i; exact q3 46 i (Or.inl (by decide))
    have h42 : s1.2.2.1 42 = s.2.2.1 42 := by funext i; exact q3 42 i (Or.inl (by decide))
    have h44 : s1.2.2.2 44 = s.2.2.2 44 := by funext i; exact q4 44 i (Or.inl (by decide))
    have hR0 : cR0 E f (uI s1 7 1) fuel (f.2.1, 0) [] sh (0, 0, 0, 0) [] (uI s1 7 1) f := by
      have i1 : ∀ j, ¬ j = 7 → (uI s1 7 1).1 j = (cBegS s (nI fuel)).1 j := fun j hj => by rw [uI_ne _ _ hj, q1]; rfl
      refine ⟨⟨⟨Nat.zero_le _, fun t ht => absurd ht List.not_mem_nil, fun i hi => absurd hi (Nat.not_lt_zero i)⟩, trivial, fun k hk => ?_, ⟨i1 37 (by decide), i1 38 (by decide), i1 39 (by decide), i1 40 (by decide), i1 41 (by decide)⟩, ⟨Nat.zero_le _, Nat.zero_le _, Nat.le_refl _, Nat.le_refl _⟩, ⟨i1 53 (by decide), fun i hi => absurd hi (Nat.not_lt_zero i)⟩, ⟨fun _ _ => rfl, rfl, fun _ _ => rfl, fun _ _ => rfl⟩, ⟨hz, hcb, Frz.rf f, hf2, hroom⟩⟩, i1 26 (by decide), i1 36 (by decide), Nat.zero_le _, Nat.le_refl _⟩
      show cSv E f (s1.2.2.1 46 k) (s1.2.2.1 42 k) (s1.2.2.2 44 k) (sh k)
      rw [h46, h42, h44]
      exact hsh k hk
    refine C_callTop (bk := bk) hst hF hj hnp ((all_sp hst hF hG 9 G).2.2 (f.2.1, 0)) (by unfold KD; omega) hR0 (fun v sh' ct out s2 f1 hrc hR2 => ⟨rfl, ?_⟩) (fun s2 f1 hE => ⟨rfl, ?_⟩)
    · obtain ⟨hB, g26, g36, gm, gb⟩ := hR2
      have wv := hB.1.2.1 v (List.mem_singleton.mpr rfl)
      have hv : rcV E f1 (s2.2.2.1 24 0) (s2.2.2.2 25 0) v := hB.1.2.2 0 (Nat.succ_pos _)
      have gb : f1.2.1 ≤ f.2.1 + 3 * ct.2.1 := gb
      have e0 : s2.1 26 - 1 = nI 0 := by rw [g26]; exact nI_pred 0
      have c0 : (nI 0).toNatClampNeg = 0 := by decide
      cases x with
      | none =>
        refine ⟨fun c => absurd rfl c, fun _ => ?_⟩
        refine eX3_drop hst ⟨rfl, ?_⟩
        refine eX3_wrong hst ⟨rfl, hok v sh' ct out _ f1 hrc wv gm (hdone [v] sh' ct out (0, -1, 0) s1 s2 f1 hk hB (by omega) (by omega) (uI (uI (uI (uI s2 26 (s2.1 26 - 1)) 54 0) 55 (-1)) 56 0) (fun j hj => ?_) ⟨rfl, rfl, rfl⟩ rfl (fun _ _ => rfl) (fun _ _ => rfl) sh' hB.2.2.1)⟩
        simp only [List.mem_cons, List.not_mem_nil, or_false, not_or] at hj
        rw [uI_ne _ _ (by omega), uI_ne _ _ (by omega), uI_ne _ _ (by omega), uI_ne _ _ (by omega)]
      | some k =>
        have hk8 := hx k rfl
        refine ⟨fun _ => ?_, fun c => absurd c (nI_ne_m1 (by omega))⟩
        have n8 : ¬ (8 : Int32) ≤ nI k := by
          rw [show (8 : Int32) = nI 8 from rfl, Int32.le_iff_toInt_le, nI_toInt (by decide), nI_toInt (by omega)]; omega
        refine eX3_put hst ⟨fun c => absurd c n8, fun _ => ?_⟩
        rw [e0, c0]
        refine ⟨inB_n (n := 0) (by decide), inB_n (n := 0) (by decide), _, rfl, hv.isR, ?_⟩
        have hin : inB (nI k) 8 := inB_n hk8
        refine eX4_put hv.isR hst ?_
        rw [show xShf (some k) = nI k from rfl, nI_clamp (n := k) (by omega)]
        refine ⟨hin, hin, hv.isT, hin, rfl, rfl, ?_⟩
        refine eX3_wrong hst ⟨rfl, hok v sh' ct out _ f1 hrc wv gm (hdone [v] sh' ct out (0, -1, 0) s1 s2 f1 hk hB (by omega) (by omega) (uI (uI (uI (uA (uT (uA (uI s2 26 (nI 0)) 42 k (s2.2.2.1 24 0)) 44 k (s2.2.2.2 25 0)) 46 k 1) 54 0) 55 (-1)) 56 0) (fun j hj => ?_) ⟨rfl, rfl, rfl⟩ rfl (fun j hj => ?_) (fun j hj => ?_) _ (fun i hi => ?_))⟩
        · simp only [List.mem_cons, List.not_mem_nil, or_false, not_or] at hj
          show (uI (uI (uI (uI s2 26 (nI 0)) 54 0) 55 (-1)) 56 0).1 j = _
          rw [uI_ne _ _ (by omega), uI_ne _ _ (by omega), uI_ne _ _ (by omega), uI_ne _ _ (by omega)]
        · simp only [List.mem_cons, List.not_mem_nil, or_false, not_or] at hj
          funext i
          show (if j = 46 ∧ i = k then 1 else if j = 42 ∧ i = k then s2.2.2.1 24 0 else s2.2.2.1 j i) = _
          rw [if_neg (by omega), if_neg (by omega)]
        · funext i
          show (if j = 44 ∧ i = k then s2.2.2.2 25 0 else s2.2.2.2 j i) = _
          rw [if_neg (by omega)]
        · show cSv E f1 (if 46 = 46 ∧ i = k then 1 else if 46 = 42 ∧ i = k then s2.2.2.1 24 0 else s2.2.2.1 46 i) (if 42 = 46 ∧ i = k then 1 else if 42 = 42 ∧ i = k then s2.2.2.1 24 0 else s2.2.2.1 42 i) (if 44 = 44 ∧ i = k then s2.2.2.2 25 0 else s2.2.2.2 44 i) (if i = k then some v else sh' i)
          rw [if_neg (show ¬ (42 = 46 ∧ i = k) from fun z => absurd z.1 (by decide)), if_neg (show ¬ (46 = 42 ∧ i = k) from fun z => absurd z.1 (by decide))]
          by_cases e : i = k
          · rw [if_pos ⟨rfl, e⟩, if_pos ⟨rfl, e⟩, if_pos ⟨rfl, e⟩, if_pos e]
            exact ⟨rfl, hv, wv⟩
          · rw [if_neg (fun z => e z.2), if_neg (fun z => e z.2), if_neg (fun z => e z.2), if_neg e]
            exact hB.2.2.1 i hi
    · obtain ⟨pc, pl, fr, wy, sh2, sh', ct, out, tr, hrc, ht1, ht2, hB, hT, hm, hb, _⟩ := hE
      have hFz : Frz f f1 := hB.2.2.2.2.2.2.2.2.2.1
      have hkp := hB.2.2.2.2.2.2.1
      have hb : f1.2.1 ≤ f.2.1 + 3 * ct.2.1 + 800 := hb
      have k43 : ∀ k, k < 8 → s2.2.2.1 43 (8 * 6 + k) = s.2.2.1 42 k ∧ s2.2.2.1 47 (8 * 6 + k) = s.2.2.1 46 k ∧ s2.2.2.2 45 (8 * 6 + k) = s.2.2.2 44 k := fun k hk => by
        rw [hkp.2.2.1 43 (by decide), hkp.2.2.1 47 (by decide), hkp.2.2.2 45 (by decide)]
        exact q5 k hk
      refine C_backS (n := 6) hst (Nat.le_refl _) (fun k hk => ?_) (fun s3 hb3 => ⟨rfl, ?_⟩)
      · rw [(k43 k hk).2.2, (k43 k hk).2.1]
        exact ⟨(hsh k hk).ok.1.fz hFz, (hsh k hk).ok.2⟩
      · obtain ⟨p1, p2, p3, p4, p5⟩ := hb3
        have e54 : s3.1 54 = nI tr.1 := by rw [p1]; exact hT.1
        rw [e54]
        refine htr pc pl fr wy sh2 ct out tr s3 f1 hrc ht1 ht2 (hdone [] sh' ct out tr s1 s2 f1 hk hB hm (by omega) s3 (fun j _ => by rw [p1]) ⟨e54, by rw [p1]; exact hT.2.1, by rw [p1]; exact hT.2.2⟩ p2 (fun j hj => ?_) (fun j hj => ?_) sh (fun k hk => ?_))
        · simp only [List.mem_cons, List.not_mem_nil, or_false, not_or] at hj
          funext i
          exact p3 j i (Or.inl (by omega))
        · funext i
          exact p4 j i (Or.inl hj)
        · rw [(p5 k hk).1, (p5 k hk).2.1, (p5 k hk).2.2, (k43 k hk).1, (k43 k hk).2.1, (k43 k hk).2.2]
          exact (hsh k hk).frz hFz
  have n1 : ¬ nI fuel < 1 := by
    rw [show (1 : Int32) = nI 1 from rfl, Int32.lt_iff_toInt_lt, nI_toInt (by omega), nI_toInt (by decide)]; omega
  have n2 : nI fuel ≤ 20000 := by
    rw [show (20000 : Int32) = nI 20000 from rfl, Int32.le_iff_toInt_le, nI_toInt (by omega), nI_toInt (by decide)]; omega
  refine eX0_run hst (C_def hst hp hf0 ⟨_, rfl, rfl, fun e => (by cases e), fun a4 e4 => ?_⟩)
  rw [hD] at e4
  cases e4
  refine ⟨b2, nI 0, by rw [b3, hnp], fun c => absurd c (by decide), fun _ => ?_⟩
  cases x with
  | none => exact ⟨fun _ => ⟨fun c => absurd c n1, fun _ => ⟨fun _ => body (by omega), fun c => absurd n2 c⟩⟩, fun c => absurd rfl c⟩
  | some k =>
    have hk8 := hx k rfl
    have n8 : ¬ (8 : Int32) ≤ nI k := by
      rw [show (8 : Int32) = nI 8 from rfl, Int32.le_iff_toInt_le, nI_toInt (by decide), nI_toInt (by omega)]; omega
    refine ⟨fun c => absurd c (nI_ne_m1 (by omega)), fun _ => eX0_isShelf hst ⟨fun c => absurd c (i32_nn k (by omega)), fun _ => ⟨fun c => absurd c n8, fun _ => ⟨_, rfl, fun c => absurd c (by decide), fun _ => ⟨fun c => absurd c n1, fun _ => ⟨fun _ => body (by omega), fun c => absurd n2 c⟩⟩⟩⟩⟩⟩
end CRc
