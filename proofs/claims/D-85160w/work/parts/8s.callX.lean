/-! THE COMPONENT'S TREES: calls, each, fold as nodes; all nodes, deeds, blocks -/
section CDe
variable {l : Launch} {E : EN} {w : CO} {d : Nat} {s s' s0 : CS} {f f' f0 : RH} {Q : KO → CS → RH → Prop} {fuel : Nat} {Bb : Nat × Nat} {P : Pg} {F : Nat → Nat} {C pl A : List Th} {fr fr' : List Fm} {N : List Nat} {wy wy' W : List Wy} {sh sh' sh1 : Nat → Option Th} {ct ct' ct1 : Ct} {out out' out1 : List Int32} {a b t j e i n h u L p g M nv m k G q : Nat} {z place y : Int32} {v x : Th} {σ : AS}
theorem doA_wk2 {o : Od} (hP : P.1 t = o) (ho : 9 ≤ o.1 ∧ o.1 ≤ 10) : doA P fuel (t, pl, fr, wy, sh, ct, out, (0, -1, 0)) = if ct.1 = fuel then (t + 1, pl, fr, wy, sh, ct, out, (10, o.2.2.2.2, 0)) else aworks P o t pl fr wy sh (ct.1 + 1, ct.2) out := by
  subst hP
  show (if (P.1 t).1 = 1 ∨ (P.1 t).1 = 16 then _ else if (P.1 t).1 = 2 then _ else if (P.1 t).1 = 3 then _ else if (P.1 t).1 < 11 then _ else _) = _
  rw [if_neg (by omega), if_neg (by omega), if_neg (by omega), if_pos (by omega)]
theorem good9 {o : Od} (hpre : aPre C pl fr wy h 1 L) (hA : ∀ x ∈ A, ZW x) (hAl : A.length ≤ h) (hP : P.1 t = o) (ho : 9 ≤ o.1 ∧ o.1 ≤ 10) (hn : aNeed o ≤ A.length) (hf : 1 ≤ fr.length ∧ fr.length ≤ 10) (hm : ct.2.1 ≤ 3000) (htk : ¬ (aT (doA P fuel (t, A.reverse ++ pl, fr, wy, sh, ct, out, (0, -1, 0)))).1 = 0 → pl.length ≤ (doA P fuel (t, A.reverse ++ pl, fr, wy, sh, ct, out, (0, -1, 0))).2.1.length ∧ fr.length ≤ (doA P fuel (t, A.reverse ++ pl, fr, wy, sh, ct, out, (0, -1, 0))).2.2.1.length ∧ ∀ q ∈ (doA P fuel (t, A.reverse ++ pl, fr, wy, sh, ct, out, (0, -1, 0))).2.2.2.1, q.1 = 2 → q ∈ wy) : aGood P fuel (t, A.reverse ++ pl, fr, wy, sh, ct, out, (0, -1, 0)) := by
  refine hpre.good (fun x hx => hA x (List.mem_reverse.mp hx)) (by rw [List.length_reverse]; omega) hf hm ?_ (hpre.tk htk)
  subst hP
  exact ⟨by omega, by rw [List.length_append, List.length_reverse]; omega, fun z => by omega, fun z => by omega, fun z => by omega, fun z => by omega, fun z => by omega⟩
theorem ord_fuel2 {o : Od} (hpre : aPre C pl fr wy h 1 L) (hA : ∀ x ∈ A, ZW x) (hAl : A.length ≤ h) (hr : aRch P fuel (a, pl, fr, wy, sh, ct, out, (0, -1, 0)) (t, A.reverse ++ pl, fr, wy, sh1, ct1, out1, (0, -1, 0))) (hP : P.1 t = o) (ho : 9 ≤ o.1 ∧ o.1 ≤ 10) (hpl : o.2.2.2.2 = place) (hn : aNeed o ≤ A.length) (hf : 1 ≤ fr.length ∧ fr.length ≤ 10) (hm : ct1.2.1 ≤ 3000) (hfu : ct1.1 = fuel) (hT : cT E f0 s0 fuel Bb (C ++ A) fr N sh1 ct1 out1 (10, place, 0) s' f') : oT E f0 s0 fuel Bb P (a, pl, fr, wy, sh, ct, out, (0, -1, 0)) C pl fr N wy s' f' := by
  have hd := doA_wk2 (fuel := fuel) (pl := A.reverse ++ pl) (fr := fr) (wy := wy) (sh := sh1) (ct := ct1) (out := out1) hP ho
  rw [if_pos hfu, hpl] at hd
  have hg := good9 (fuel := fuel) (sh := sh1) (out := out1) hpre hA hAl hP ho hn hf hm (by rw [hd]; exact fun _ => ⟨by show pl.length ≤ (A.reverse ++ pl).length; rw [List.length_append]; omega, Nat.le_refl _, fun q hq _ => hq⟩)
  have hst := stA_fin (P := P) (fuel := fuel) (σ := (t, A.reverse ++ pl, fr, wy, sh1, ct1, out1, (0, -1, 0))) (by rw [hd]; show 9 < 10; decide)
  rw [hd] at hst
  exact ⟨_, t + 1, A.reverse ++ pl, fr, fr, wy, sh1, ct1, out1, (10, place, 0), hr, hg, hT.drop, rfl, rfl, Or.inr ⟨Nat.le_refl _, by show 10 ≤ 11; decide, _, hst⟩⟩
theorem aPre.u0 (k : aPre C pl fr wy h 1 L) : aPre C pl fr wy h 0 L := ⟨k.1, k.2.1, k.2.2.1, by have := k.2.2.2.1; omega, k.2.2.2.2⟩
theorem N_call (hst : l.stackTraces = false) {V : Nat → Value} {c : Nat → Nat} (ih : NSp l E w f0 s0 fuel Bb P F M L g) (hfn : FnR f0 P F M G) (hG : G ≤ 75) (ihb : ∀ L', L = L' + 1 → XSp l E w f0 s0 fuel Bb P F M L' G) (hp : p < f0.2.2.2) (ho : oc f0 p 19) (hpl : vl f0 p 165 = .int place) (hq : vl f0 p 179 = .ref q) (hwh : vl f0 p 174 = .int (nI n)) (hfu : vl f0 p 178 = .ref (F j)) (hj : j < M) (hn : nNs f0 q m V) (hnp : (P.2 j).1 = m) (hmh : m + 70 ≤ h) (hc0 : c 0 = a) (hk : ∀ k, k < m → ∃ h', h' + k ≤ h ∧ RepN f0 P F M nv g (V k) (c k) (c (k + 1)) h') (hP : (n = 0 ∧ P.1 (c m) = (9, j, m, y, place) ∧ b = c m + 1) ∨ (∃ (x1 x2 : Nat) (y2 : Int32), ((n = 28 ∧ m = 1) ∨ (n = 29 ∧ m = 2)) ∧ P.1 (c m) = (10, n, x1, y, place) ∧ P.1 (c m + 1) = (11, x2, j, y2, place) ∧ b = c m + 2)) (hh : 1 ≤ h) (hd : KD L (g + 1) ≤ d) (hL : fr.length + L = 10) (hN : N.head? = some nv) (hpre : aPre C pl fr wy h 1 L) (hR : cR E f0 s0 fuel Bb C fr N sh ct out s f) (hQ : ∀ o s' f', oN E f0 s0 fuel Bb P a b C pl fr N wy sh ct out o s' f' → Q o s' f') : EvC l E w d MX21_work [.ref p, .ref (w.1 3)] s f Q := by
  unfold KD at hd
  obtain ⟨d, rfl⟩ : ∃ d', d = d' + 11 := ⟨d - 11, by omega⟩
  obtain ⟨q1, q2, q3, q4, r, r1, r2, r3, r4, r5⟩ := hn
  have hdb : ∀ L', L = L' + 1 → KD L' G + 2 ≤ d + 10 := fun L' e => by unfold KD; omega
  refine eX21_work hst ?_
  refine dn (P := fun k => ∀ (A : List Th) (s : CS) (f : RH) (sh' : Nat → Option Th) (ct' : Ct) (out' : List Int32), A.length = k → ct.1 ≤ ct'.1 → aRch P fuel (a, pl, fr, wy, sh, ct, out, (0, -1, 0)) (c k, A.reverse ++ pl, fr, wy, sh', ct', out', (0, -1, 0)) → cR E f0 s0 fuel Bb (C ++ A) fr N sh' ct' out' s f → ExC l E w (d + 11) MX21_work 2 [some (.ref p), some (.ref (w.1 3)), some (.int (nI k))] [] s f Q) m ?_ (fun k hkm ihk => ?_) [] s f sh ct out rfl (Nat.le_refl _) (by rw [hc0]; exact aRch.rf _ _ _) (by rw [List.append_nil]; exact hR)
  · intro A s f sh' ct' out' hA hct hrc hR'
    have hF := hR'.frz
    have hf := hR'.2.2.2.2.2
    have hm3 := hR'.2.2.2.1
    have hvZ : ∀ x ∈ A, ZW x := fun x hx => hR'.1.1.2.1 x (List.mem_append_right _ hx)
    obtain ⟨tk1, tk2⟩ := take_rev A pl hA
    have hoc := hF.ocE hp ho
    have h165 : vl f p 165 = .int place := by rw [hF.vlE hp]; exact hpl
    have h174 : vl f p 174 = .int (nI n) := by rw [hF.vlE hp]; exact hwh
    have h178 : vl f p 178 = .ref (F j) := by rw [hF.vlE hp]; exact hfu
    refine vX21_work_2 ⟨hoc, q, by rw [hF.vlE hp]; exact hq, hF.ocE q1 q2, nI m, by rw [hF.vlE q1]; exact q3, pk_le m m (fun _ => ⟨19, hoc, by decide, by decide, place, h165, ?_⟩) (fun c => by omega) rfl rfl⟩
    rcases hP with ⟨rfl, hP, rfl⟩ | ⟨x1, x2, y2, hn2, hP, hP2, rfl⟩
    · have hop : 9 ≤ ((9, j, m, y, place) : Od).1 ∧ ((9, j, m, y, place) : Od).1 ≤ 10 := ⟨Nat.le_refl 9, by show 9 ≤ 10; decide⟩
      have hnd : aNeed (9, j, m, y, place) ≤ A.length := by show m ≤ A.length; omega
      refine C_step hst hR' (fun hfu hT => hQ _ _ _ (Or.inr ⟨rfl, ord_fuel2 hpre hvZ (by omega) hrc hP hop rfl hnd hf hm3 hfu hT⟩)) (fun hlt s1 hR1 => ⟨rfl, hoc, nI 0, h174, fun c => absurd rfl c, fun _ => ⟨hoc, _, h178, rfl, 19, hoc, by decide, by decide, place, h165, ?_⟩⟩)
      have hdo := doA_wk2 (fuel := fuel) (pl := A.reverse ++ pl) (fr := fr) (wy := wy) (sh := sh') (ct := ct') (out := out') hP hop
      rw [if_neg (by omega)] at hdo
      have hdo : doA P fuel (c m, A.reverse ++ pl, fr, wy, sh', ct', out', (0, -1, 0)) = aenter P j m (c m + 1) (A.reverse ++ pl) fr wy sh' (ct'.1 + 1, ct'.2) out' place := hdo
      by_cases h10 : fr.length = 10
      · unfold aenter at hdo
        rw [if_pos h10] at hdo
        refine C_call0 hst hR1 h10 (fun hT => hQ _ _ _ (Or.inr ⟨rfl, _, c m + 1, _, fr, fr, wy, sh', _, out', (8, place, 0), hrc, good9 (o := (9, j, m, y, place)) hpre hvZ (by omega) hP hop hnd hf hm3 ?_, hT, rfl, rfl, Or.inl ⟨by show 1 ≤ 8; decide, by show 8 ≤ 9; decide, hdo, ⟨A.reverse, rfl⟩, ⟨[], rfl⟩, [], rfl, fun q hq => absurd hq List.not_mem_nil⟩⟩))
        rw [hdo]
        exact fun _ => ⟨by show pl.length ≤ (A.reverse ++ pl).length; rw [List.length_append]; omega, Nat.le_refl _, fun q hq _ => hq⟩
      · obtain ⟨L', rfl⟩ : ∃ L', L = L' + 1 := ⟨L - 1, by omega⟩
        unfold aenter at hdo
        rw [if_neg h10, tk1, tk2] at hdo
        have hrc2 := hrc.trans (one_ok (good9 (o := (9, j, m, y, place)) hpre hvZ (by omega) hP hop hnd hf hm3 (by rw [hdo]; exact fun z => absurd rfl z)) hdo rfl)
        refine C_call (back := c m + 1) (args := A) hst hfn hj (ihb L' rfl) (by have := hdb L' rfl; omega) hL hpre.u0 (by rw [hA, hnp]) hR1 (fun o s' f' q => ?_)
        rcases q with ⟨rfl, v, sh4, ct4, out4, k2, k3, k4⟩ | ⟨rfl, q⟩
        · have k2 : ct'.1 + 1 ≤ ct4.1 := k2
          exact ⟨rfl, hQ _ _ _ (Or.inl ⟨rfl, v, sh4, ct4, out4, by omega, hrc2.trans k3, k4⟩)⟩
        · exact hQ _ _ _ (Or.inr ⟨rfl, oT.cut (A := []) (B := []) (W := []) hrc2 (List.append_nil C).symm rfl rfl (fun q hq => absurd hq List.not_mem_nil) q⟩)
    · have hop : 9 ≤ ((10, n, x1, y, place) : Od).1 ∧ ((10, n, x1, y, place) : Od).1 ≤ 10 := ⟨by show 9 ≤ 10; decide, Nat.le_refl 10⟩
      have hnd : aNeed (10, n, x1, y, place) ≤ A.length := by show 1 ≤ A.length; omega
      have hn0 : ¬ nI n = 0 := by rw [show (0 : Int32) = nI 0 from rfl, nI_eq (by omega) (by decide)]; omega
      refine C_step hst hR' (fun hfu hT => hQ _ _ _ (Or.inr ⟨rfl, ord_fuel2 hpre hvZ (by omega) hrc hP hop rfl hnd hf hm3 hfu hT⟩)) (fun hlt s1 hR1 => ⟨rfl, hoc, nI n, h174, fun _ => ⟨hoc, nI n, h174, ?_⟩, fun c => absurd c hn0⟩)
      have hdo := doA_wk2 (fuel := fuel) (pl := A.reverse ++ pl) (fr := fr) (wy := wy) (sh := sh') (ct := ct') (out := out') hP hop
      rw [if_neg (by omega)] at hdo
      have hdo : doA P fuel (c m, A.reverse ++ pl, fr, wy, sh', ct', out', (0, -1, 0)) = if zk ((A.reverse ++ pl).headD (zI 0)) = 0 then (c m + 1, (A.reverse ++ pl).tail, fr, wy, sh', (ct'.1 + 1, ct'.2), out', (3, place, 0)) else (c m + 1, (A.reverse ++ pl).tail, fr, ((if n = 28 then 3 else 4), some ((A.reverse ++ pl).headD (zI 0)), 0, 0, zn ((A.reverse ++ pl).headD (zI 0)), (A.reverse ++ pl).tail.length, fr.length, 0) :: wy, sh', (ct'.1 + 1, ct'.2), out', (0, -1, 0)) := hdo
      have hend : ∀ o s' f', oS E f0 s0 fuel Bb P (a, pl, fr, wy, sh, ct, out, (0, -1, 0)) (ct'.1 + 1) (c m + 1 + 1) C pl fr N wy o s' f' → KP o (fun r => r = none ∧ Q (.inl none) s' f') (fun k => Q (.inr k) s' f') := by
        rintro o s' f' (⟨rfl, v, sh4, ct4, out4, k2, k3, k4⟩ | ⟨rfl, q⟩)
        · exact ⟨rfl, hQ _ _ _ (Or.inl ⟨rfl, v, sh4, ct4, out4, by omega, k3, k4⟩)⟩
        · exact hQ _ _ _ (Or.inr ⟨rfl, q⟩)
      rcases hn2 with ⟨rfl, rfl⟩ | ⟨rfl, rfl⟩
      · obtain ⟨x, rfl⟩ : ∃ x, A = [x] := by
          match A, hA with
          | [x], _ => exact ⟨x, rfl⟩
        refine ⟨fun c => absurd rfl c, fun _ => ⟨hoc, _, h178, rfl, 19, hoc, by decide, by decide, place, h165, ?_⟩⟩
        have hdo : doA P fuel (c 1, [x].reverse ++ pl, fr, wy, sh', ct', out', (0, -1, 0)) = if zk x = 0 then (c 1 + 1, pl, fr, wy, sh', (ct'.1 + 1, ct'.2), out', (3, place, 0)) else (c 1 + 1, pl, fr, (3, some x, 0, 0, zn x, pl.length, fr.length, 0) :: wy, sh', (ct'.1 + 1, ct'.2), out', (0, -1, 0)) := hdo
        by_cases hx : zk x = 0
        · rw [if_pos hx] at hdo
          refine C_each0 hst hx hR1 (fun hT => hQ _ _ _ (Or.inr ⟨rfl, _, c 1 + 1, _, fr, fr, wy, sh', _, out', (3, place, 0), hrc, good9 (o := (10, 28, x1, y, place)) hpre hvZ (by omega) hP hop hnd hf hm3 ?_, hT, rfl, rfl, Or.inl ⟨by show 1 ≤ 3; decide, by show 3 ≤ 9; decide, hdo, ⟨[], rfl⟩, ⟨[], rfl⟩, [], rfl, fun q hq => absurd hq List.not_mem_nil⟩⟩))
          rw [hdo]
          exact fun _ => ⟨Nat.le_refl _, Nat.le_refl _, fun q hq _ => hq⟩
        · rw [if_neg hx] at hdo
          have hrc2 := hrc.trans (one_ok (good9 (o := (10, 28, x1, y, place)) hpre hvZ (by omega) hP hop hnd hf hm3 (by rw [hdo]; exact fun z => absurd rfl z)) hdo rfl)
          exact C_each hst hfn hj hnp ihb (by omega) hdb hL hpre (by omega) hP2 hx hrc2 hR1 hend
      · obtain ⟨v, x, rfl⟩ : ∃ v x, A = [v, x] := by
          match A, hA with
          | [v, x], _ => exact ⟨v, x, rfl⟩
        refine ⟨fun _ => ⟨hoc, _, h178, rfl, 19, hoc, by decide, by decide, place, h165, ?_⟩, fun c => absurd c (by decide)⟩
        have hdo : doA P fuel (c 2, [v, x].reverse ++ pl, fr, wy, sh', ct', out', (0, -1, 0)) = if zk x = 0 then (c 2 + 1, v :: pl, fr, wy, sh', (ct'.1 + 1, ct'.2), out', (3, place, 0)) else (c 2 + 1, v :: pl, fr, (4, some x, 0, 0, zn x, pl.length + 1, fr.length, 0) :: wy, sh', (ct'.1 + 1, ct'.2), out', (0, -1, 0)) := hdo
        by_cases hx : zk x = 0
        · rw [if_pos hx] at hdo
          refine C_fold0 hst hx hR1 (fun hT => hQ _ _ _ (Or.inr ⟨rfl, _, c 2 + 1, _, fr, fr, wy, sh', _, out', (3, place, 0), hrc, good9 (o := (10, 29, x1, y, place)) hpre hvZ (by omega) hP hop hnd hf hm3 ?_, hT, rfl, rfl, Or.inl ⟨by show 1 ≤ 3; decide, by show 3 ≤ 9; decide, hdo, ⟨[v], rfl⟩, ⟨[], rfl⟩, [], rfl, fun q hq => absurd hq List.not_mem_nil⟩⟩))
          rw [hdo]
          exact fun _ => ⟨Nat.le_succ _, Nat.le_refl _, fun q hq _ => hq⟩
        · rw [if_neg hx] at hdo
          have hrc2 := hrc.trans (one_ok (good9 (o := (10, 29, x1, y, place)) hpre hvZ (by omega) hP hop hnd hf hm3 (by rw [hdo]; exact fun z => absurd rfl z)) hdo rfl)
          exact C_fold hst hfn hj hnp ihb (by omega) hdb hL hpre (by omega) hP2 hx hrc2 hR1 hend
  · intro A s f sh' ct' out' hA hct hrc hR'
    have hF := hR'.frz
    have hvZ : ∀ x ∈ A, ZW x := fun x hx => hR'.1.1.2.1 x (List.mem_append_right _ hx)
    obtain ⟨h', hh', hrep⟩ := hk k hkm
    obtain ⟨p', e1, hw⟩ := ih nv _ (c k) (c (k + 1)) h' hrep (d + 11 - 1) s f (A.reverse ++ pl) (C ++ A) fr N wy sh' ct' out' (by unfold KD; omega) hL hN (hpre.add hvZ (by omega)) hR' _ (fun o s' f' q => q)
    refine vX21_work_2 ⟨hF.ocE hp ho, q, by rw [hF.vlE hp]; exact hq, hF.ocE q1 q2, nI m, by rw [hF.vlE q1]; exact q3, pk_le m k (fun c => by omega) (fun _ => ⟨hF.ocE hp ho, q, by rw [hF.vlE hp]; exact hq, hF.ocE q1 q2, r, by rw [hF.vlE q1]; exact r1, 5, by decide, by rw [hF.tgE r2]; exact r3, by rw [hF.lnE r2]; exact inB_k (by omega) (by omega), p', by rw [hF.vlE r2, nI_clamp (n := k) (by omega), r5 k hkm]; exact e1, _, ?_, hw⟩) rfl rfl⟩
    rintro o s2 f3 (⟨rfl, v, sh2, ct2, out2, hct2, hrc2, hR2⟩ | ⟨rfl, hT⟩)
    · refine ⟨rfl, ?_⟩
      rw [nI_1]
      refine ihk (A ++ [v]) s2 f3 sh2 ct2 out2 (by rw [List.length_append, hA]; rfl) (Nat.le_trans hct hct2) ?_ (by rw [← List.append_assoc]; exact hR2)
      rw [List.reverse_append]
      exact hrc.trans hrc2
    · exact hQ _ _ _ (Or.inr ⟨rfl, oT.up hrc hT⟩)
/-- nodes of one height more -/
theorem NSp_step (hst : l.stackTraces = false) (hfn : FnR f0 P F M G) (hG : G ≤ 75) (ih : NSp l E w f0 s0 fuel Bb P F M L g) (ihb : ∀ L', L = L' + 1 → XSp l E w f0 s0 fuel Bb P F M L' G) : NSp l E w f0 s0 fuel Bb P F M L (g + 1) := by
  intro nv v a b h hrep d s f pl C fr N wy sh ct out hd hL hN hpre hR Q hQ
  have hF := hR.frz
  have hd2 : 2 ≤ d := by unfold KD at hd; omega
  obtain ⟨p, pl1, rfl, hp, hpl, hh, k⟩ := hrep
  refine ⟨p, rfl, ?_⟩
  rcases k with ⟨ho, c, q, x, y, q1, q2, rfl⟩ | ⟨ho, n, x, y, q1, q2, q3, rfl⟩ | ⟨ho, t, s1, x, y, z, q1, q2, q3, q4, rfl⟩ | ⟨ho, q, m, V, S, L1, c, q1, q2, q3, q4, q5, q6, q7, rfl⟩ | ⟨ho, q, m, V, L1, c, q1, q2, q3, q4, q5, q6, rfl⟩ | ⟨ho, q, m, x, y, V, c, q1, q2, q3, q4, q5, q6, rfl⟩ | ⟨ho, q, m, s1, y, V, c, q1, q2, q3, q4, q5, q6, q7, q8, rfl⟩ | ⟨ho, q, m, j, s1, y, V, c, q1, q2, q3, q4, q5, q6, q7, q8, q9, q10⟩
  · obtain ⟨d, rfl⟩ : ∃ d', d = d' + 1 := ⟨d - 1, by omega⟩
    exact ⟨15, hF.ocE hp ho, Or.inl ⟨rfl, N_num hst hp ho q1 q2 hh hpre hR hQ⟩⟩
  · obtain ⟨d, rfl⟩ : ∃ d', d = d' + 2 := ⟨d - 2, by omega⟩
    exact ⟨20, hF.ocE hp ho, Or.inr (Or.inr (Or.inr (Or.inr (Or.inl ⟨rfl, N_name hst hp ho hpl q1 q2 q3 hh hN hpre hR hQ⟩))))⟩
  · exact ⟨22, hF.ocE hp ho, Or.inr (Or.inr (Or.inr (Or.inr (Or.inr (Or.inr (Or.inl ⟨rfl, N_pre hst ih hp ho hpl q1 q2 q3.1 q4 hh hd hL hN hpre hR hQ⟩))))))⟩
  · exact ⟨23, hF.ocE hp ho, Or.inr (Or.inr (Or.inr (Or.inr (Or.inr (Or.inr (Or.inr ⟨rfl, N_chain hst ih hp ho q1 q2 q3 q4 q5 q6 q7 hh hd hL hN hpre hR hQ⟩))))))⟩
  · exact ⟨21, hF.ocE hp ho, Or.inr (Or.inr (Or.inr (Or.inr (Or.inr (Or.inl ⟨rfl, N_places hst ih hp ho q1 q2 q3 q4 q5 (fun k h1 h2 => by
      obtain ⟨t, x, z, h', y, w1, w2, w3, w4⟩ := q6 k h1 h2
      exact ⟨t, x, z, h', y, w1, w2, w3, w4⟩) hh hd hL hN hpre hR hQ⟩)))))⟩
  · exact ⟨16, hF.ocE hp ho, Or.inr (Or.inl ⟨rfl, N_lit hst ih hp ho hpl q1 q2 q3 q4 q5 q6 hh hd hL hN hpre hR hQ⟩)⟩
  · exact ⟨18, hF.ocE hp ho, Or.inr (Or.inr (Or.inl ⟨rfl, N_bi hst ih hp ho hpl q1 q3 q2 q4 q5 q6 q7 q8 hh hd hL hN hpre hR hQ⟩))⟩
  · exact ⟨19, hF.ocE hp ho, Or.inr (Or.inr (Or.inr (Or.inl ⟨rfl, N_call hst ih hfn hG ihb hp ho hpl q1 q2 q3 q4 q5 q6 q7 q8 q9 q10 hh hd hL hN hpre hR hQ⟩)))⟩
/-- all nodes, deeds, blocks do as their orders say -/
theorem all_sp (hst : l.stackTraces = false) (hfn : FnR f0 P F M G) (hG : G ≤ 75) : ∀ L g, (∀ Bb, NSp l E w f0 s0 fuel Bb P F M L g) ∧ (∀ Bb, DSp l E w f0 s0 fuel Bb P F M L g) ∧ ∀ Bb, XSp l E w f0 s0 fuel Bb P F M L g := by
  intro L
  induction L with
  | zero =>
    intro g
    induction g with
    | zero => exact ⟨fun Bb nv v a b h hrep => hrep.elim, fun Bb nv v a b u h hrep => hrep.elim, fun Bb nv v a b u h hrep => hrep.elim⟩
    | succ g ih => exact ⟨fun Bb => NSp_step hst hfn hG (ih.1 Bb) (fun L' e => absurd e (by omega)), DSp_step hst ih.1 ih.2.2, XSp_step hst ih.2.1⟩
  | succ L ihL =>
    intro g
    induction g with
    | zero => exact ⟨fun Bb nv v a b h hrep => hrep.elim, fun Bb nv v a b u h hrep => hrep.elim, fun Bb nv v a b u h hrep => hrep.elim⟩
    | succ g ih => exact ⟨fun Bb => NSp_step hst hfn hG (ih.1 Bb) (fun L' e => by
        obtain rfl : L = L' := by omega
        exact (ihL G).2.2 Bb), DSp_step hst ih.1 ih.2.2, XSp_step hst ih.2.1⟩
end CDe
