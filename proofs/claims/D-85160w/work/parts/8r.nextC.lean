/-! THE COMPONENT'S TREES: each and fold -/
section CDd2
variable {l : Launch} {E : EN} {w : CO} {d : Nat} {s s' s0 : CS} {f f' f0 : RH} {Q : KO → CS → RH → Prop} {fuel : Nat} {Bb : Nat × Nat} {P : Pg} {F : Nat → Nat} {C pl A : List Th} {fr fr' : List Fm} {N : List Nat} {wy wy' W : List Wy} {sh sh' : Nat → Option Th} {ct ct' : Ct} {out out' : List Int32} {a b c t j e i n h u L p g M nv m k kk dd ee x2 G : Nat} {z place y2 : Int32} {v x : Th} {σ : AS}
theorem ExC.fz {M : MR} {pc : Nat} {lo : LO} {st : List Value} (k : ExC l E w d M pc lo st s f (fun o s' f' => Frz f f' → ez E ≤ f'.2.2.2 ∧ f'.2.2.2 ≤ f'.1 → Q o s' f')) : ExC l E w d M pc lo st s f Q := fun f0 h hW hF => (k f h hW (Frz.rf f)).mono fun _ _ q => by
  obtain ⟨s', f', a, b, c⟩ := q
  refine ⟨s', f', a, hF.trans b, ?_⟩
  rcases c with ⟨r, c1, c2⟩ | ⟨k, a', c1, c2, c3⟩
  · exact Or.inl ⟨r, c1, c2 b ⟨a.cb0, a.cb1⟩⟩
  · exact Or.inr ⟨k, a', c1, c2, c3 b ⟨a.cb0, a.cb1⟩⟩
theorem doA_next (hP : P.1 t = (11, x2, j, y2, place)) : doA P fuel (t, pl, fr, wy, sh, ct, out, (0, -1, 0)) = anext P fuel (11, x2, j, y2, place) t pl fr wy sh ct out := by
  have h1 : (P.1 t).1 = 11 := by rw [hP]
  show (if (P.1 t).1 = 1 ∨ (P.1 t).1 = 16 then _ else if (P.1 t).1 = 2 then _ else if (P.1 t).1 = 3 then _ else if (P.1 t).1 < 11 then _ else if (P.1 t).1 = 11 then anext P fuel (P.1 t) t pl fr wy sh ct out else _) = _
  rw [if_neg (by omega), if_neg (by omega), if_neg (by omega), if_neg (by omega), if_pos h1, hP]
theorem an_lt {o : Od} {pc : Nat} (hb : b < c) : anext P fuel o pc pl fr ((kk, some x, a, b, c, dd, ee, z) :: wy) sh ct out = if ct.1 = fuel then (pc + 1, pl, fr, (kk, some x, a, b, c, dd, ee, z) :: wy, sh, ct, out, (10, o.2.2.2.2, 0)) else if fr.length = 10 then (pc + 1, pl, fr, (kk, some x, a, b, c, dd, ee, z) :: wy, sh, (ct.1 + 1, ct.2), out, (8, o.2.2.2.2, 0)) else aenter P o.2.2.1 (if kk = 3 then 1 else 2) pc (zel x b :: pl) fr ((kk, some x, a, b + 1, c, dd, ee, z) :: wy) sh (ct.1 + 1, ct.2) out o.2.2.2.2 := by
  show (if b < c then _ else _) = _
  rw [if_pos hb]; rfl
theorem an_end {o : Od} {pc : Nat} : anext P fuel o pc pl fr ((kk, some x, a, c, c, dd, ee, z) :: wy) sh ct out = if kk = 4 then (pc + 1, pl, fr, wy, sh, ct, out, (0, -1, 0)) else afin (pc + 1) (zeach x (pl.take (pl.length - dd)).reverse) (pl.drop (pl.length - dd)) fr wy sh ct out o.2.2.2.2 := by
  show (if c < c then _ else _) = _
  rw [if_neg (Nat.lt_irrefl c)]; rfl
theorem good11 (hpre : aPre C pl fr ((kk, some x, 0, k, zn x, dd, ee, 0) :: wy) h u L) (hA : ∀ t ∈ A, ZW t) (hAl : A.length ≤ h + 100) (hf : 1 ≤ fr.length ∧ fr.length ≤ 10) (hm : ct.2.1 ≤ 3000) (hP : P.1 t = (11, x2, j, y2, place)) (h34 : kk = 3 ∨ kk = 4) (hx : ¬ zk x = 0) (hk : k ≤ zn x) (hdd : dd ≤ (A ++ pl).length) (h4 : kk = 4 → 1 ≤ (A ++ pl).length) (htk : ¬ (aT (anext P fuel (11, x2, j, y2, place) t (A ++ pl) fr ((kk, some x, 0, k, zn x, dd, ee, 0) :: wy) sh ct out)).1 = 0 → pl.length ≤ (anext P fuel (11, x2, j, y2, place) t (A ++ pl) fr ((kk, some x, 0, k, zn x, dd, ee, 0) :: wy) sh ct out).2.1.length ∧ fr.length ≤ (anext P fuel (11, x2, j, y2, place) t (A ++ pl) fr ((kk, some x, 0, k, zn x, dd, ee, 0) :: wy) sh ct out).2.2.1.length ∧ ∀ q ∈ (anext P fuel (11, x2, j, y2, place) t (A ++ pl) fr ((kk, some x, 0, k, zn x, dd, ee, 0) :: wy) sh ct out).2.2.2.1, q.1 = 2 → q ∈ ((kk, some x, 0, k, zn x, dd, ee, 0) :: wy : List Wy)) : aGood P fuel (t, A ++ pl, fr, (kk, some x, 0, k, zn x, dd, ee, 0) :: wy, sh, ct, out, (0, -1, 0)) := by
  have h11 : (P.1 t).1 = 11 := by rw [hP]
  refine hpre.good hA hAl hf hm ⟨by omega, by rw [hP]; exact Nat.zero_le _, fun _ => ⟨h34, ⟨x, rfl, hx, rfl⟩, hk, hdd, h4⟩, fun z => by omega, fun z => by omega, fun z => by omega, fun z => by omega⟩ (hpre.tk ?_)
  rw [doA_next hP]
  exact htk
theorem aPre.wayn {q : Wy} (k : aPre C pl fr wy h 1 L) (hq : ¬ q.1 = 2) : aPre C pl fr (q :: wy) h 0 L := by
  obtain ⟨k1, k2, k3, k4, k5⟩ := k
  refine ⟨k1, k2, k3, by rw [List.length_cons]; omega, fun r hr h2 => ?_⟩
  rcases List.mem_cons.mp hr with rfl | hr
  · exact absurd h2 hq
  · exact k5 r hr h2
/-- one round of each or fold -/
theorem C_next (hst : l.stackTraces = false) {QQ : CS → RH → Prop} (hfn : FnR f0 P F M G) (hj : j < M) (hm : A.length + 1 = (P.2 j).1) (ihb : ∀ L', L = L' + 1 → XSp l E w f0 s0 fuel Bb P F M L' G) (hd3 : 3 ≤ d) (hd : ∀ L', L = L' + 1 → KD L' G + 1 ≤ d) (hL : fr.length + L = 10) (hpre : aPre C pl fr wy h 1 L) (hAh : A.length + 2 ≤ h) (hA : ∀ t ∈ A, ZW t) (hP : P.1 t = (11, x2, j, y2, place)) (h34 : kk = 3 ∨ kk = 4) (hkk : (if kk = 3 then 1 else 2) = A.length + 1) (hx : ¬ zk x = 0) (hdd : dd ≤ (A.reverse ++ pl).length) (hk : k < zn x) (hi : i < (C ++ A).length) (hxi : (C ++ A).getD i (zI 0) = x) (hrc : aRch P fuel σ (t, A.reverse ++ pl, fr, (kk, some x, 0, k, zn x, dd, ee, 0) :: wy, sh, ct, out, (0, -1, 0))) (hR : cR E f0 s0 fuel Bb (C ++ A) fr N sh ct out s f)
    (hQt : ∀ s' f', oT E f0 s0 fuel Bb P σ C pl fr N wy s' f' → Q (.inr 9) s' f')
    (hQ : ∀ v s' f' sh' ct' out', Frz f f' → ct.1 ≤ ct'.1 → aRch P fuel σ (t, v :: pl, fr, (kk, some x, 0, k + 1, zn x, dd, ee, 0) :: wy, sh', ct', out', (0, -1, 0)) → cR E f0 s0 fuel Bb (C ++ [v]) fr N sh' ct' out' s' f' → QQ s' f') :
    EvC l E w d MX3_item [.ref (w.1 3), .int (nI i), .int (nI k)] s f (fun o s46 f47 => KP o (fun r => r = none ∧ (EvC l E w d MX3_step [.ref (w.1 3), .int place] s46 f47 (fun o s48 f49 => KP o (fun r => r = none ∧ (EvC l E w d MX3_call [.ref (w.1 3), .ref (F j), .int place] s48 f49 (fun o s50 f51 => KP o (fun r => r = none ∧ QQ s50 f51) (fun k => Q (.inr k) s50 f51)))) (fun k => Q (.inr k) s48 f49)))) (fun k => Q (.inr k) s46 f47)) := by
  obtain ⟨d, rfl⟩ : ∃ d', d = d' + 3 := ⟨d - 3, by omega⟩
  have hCl := hpre.2.2.1
  have hf := hR.2.2.2.2.2
  have n2 : ∀ b : Nat, ¬ ((kk, some x, 0, b, zn x, dd, ee, 0) : Wy).1 = 2 := fun b => by show ¬ kk = 2; omega
  have hpw := fun b => hpre.wayn (q := (kk, some x, 0, b, zn x, dd, ee, 0)) (n2 b)
  have hdo := doA_next (fuel := fuel) (pl := A.reverse ++ pl) (fr := fr) (wy := (kk, some x, 0, k, zn x, dd, ee, 0) :: wy) (sh := sh) (ct := ct) (out := out) hP
  rw [an_lt hk] at hdo
  have hgood : ∀ {σ' : AS}, anext P fuel (11, x2, j, y2, place) t (A.reverse ++ pl) fr ((kk, some x, 0, k, zn x, dd, ee, 0) :: wy) sh ct out = σ' → (¬ (aT σ').1 = 0 → pl.length ≤ σ'.2.1.length ∧ fr.length ≤ σ'.2.2.1.length ∧ ∀ q ∈ σ'.2.2.2.1, q.1 = 2 → q ∈ ((kk, some x, 0, k, zn x, dd, ee, 0) :: wy : List Wy)) → aGood P fuel (t, A.reverse ++ pl, fr, (kk, some x, 0, k, zn x, dd, ee, 0) :: wy, sh, ct, out, (0, -1, 0)) := by
    intro σ' e hz
    refine good11 (hpw k) (fun t ht => hA t (List.mem_reverse.mp ht)) (by rw [List.length_reverse]; omega) hf hR.2.2.2.1 hP h34 hx (by omega) hdd (fun c => ?_) (by rw [e]; exact hz)
    rw [c, if_neg (by decide)] at hkk
    rw [List.length_append, List.length_reverse]; omega
  refine EvC.fz (C_item hst hR (by rw [List.length_append]; omega) hi hxi (fun _ => hk) (fun s1 f1 hR1 hFz _ => ⟨rfl, ?_⟩))
  rw [if_neg hx, List.append_assoc] at hR1
  have hzel := hR1.1.1.2.1 (zel x k) (List.mem_append_right _ (List.mem_append_right _ (List.mem_singleton.mpr rfl)))
  refine C_step hst hR1 (fun hfu hT => hQt _ _ ?_) (fun hlt s2 hR2 => ⟨rfl, ?_⟩)
  · rw [if_pos hfu] at hdo
    have hstA := stA_fin (P := P) (fuel := fuel) (σ := (t, A.reverse ++ pl, fr, (kk, some x, 0, k, zn x, dd, ee, 0) :: wy, sh, ct, out, (0, -1, 0))) (by rw [hdo]; show 9 < 10; decide)
    rw [hdo] at hstA
    refine ⟨_, t + 1, _, fr, fr, _, sh, ct, out, (10, place, 0), hrc, hgood (by rw [an_lt hk, if_pos hfu]) (fun _ => ⟨by show pl.length ≤ (A.reverse ++ pl).length; rw [List.length_append]; omega, Nat.le_refl _, fun q hq _ => hq⟩), hT.drop, rfl, rfl, Or.inr ⟨Nat.le_refl _, by show 10 ≤ 11; decide, _, hstA⟩⟩
  · rw [if_neg (by omega)] at hdo
    by_cases h10 : fr.length = 10
    · refine C_call0 hst hR2 h10 (fun hT => hQt _ _ ?_)
      rw [if_pos h10] at hdo
      exact ⟨_, t + 1, _, fr, fr, _, sh, _, out, (8, place, 0), hrc, hgood (by rw [an_lt hk, if_neg (by omega), if_pos h10]) (fun _ => ⟨by show pl.length ≤ (A.reverse ++ pl).length; rw [List.length_append]; omega, Nat.le_refl _, fun q hq _ => hq⟩), hT, rfl, rfl, Or.inl ⟨by show 1 ≤ 8; decide, by show 8 ≤ 9; decide, hdo, ⟨A.reverse, rfl⟩, ⟨[], rfl⟩, [(kk, some x, 0, k, zn x, dd, ee, 0)], rfl, fun q hq => by rw [List.mem_singleton.mp hq]; exact n2 k⟩⟩
    · obtain ⟨L', rfl⟩ : ∃ L', L = L' + 1 := ⟨L - 1, by omega⟩
      rw [if_neg h10] at hdo
      obtain ⟨tk1, tk2⟩ := take_rev (A ++ [zel x k]) pl (m := A.length + 1) (by rw [List.length_append]; rfl)
      rw [List.reverse_append] at tk1 tk2
      have tk1 : ((zel x k :: (A.reverse ++ pl)).take (A.length + 1)).reverse = A ++ [zel x k] := tk1
      have tk2 : (zel x k :: (A.reverse ++ pl)).drop (A.length + 1) = pl := tk2
      have hen : aenter P j (if kk = 3 then 1 else 2) t (zel x k :: (A.reverse ++ pl)) fr ((kk, some x, 0, k + 1, zn x, dd, ee, 0) :: wy) sh (ct.1 + 1, ct.2) out place = ((P.2 j).2, pl, (avars (A ++ [zel x k]), pl.length, t, ((kk, some x, 0, k + 1, zn x, dd, ee, 0) :: wy : List Wy).length) :: fr, (kk, some x, 0, k + 1, zn x, dd, ee, 0) :: wy, sh, (ct.1 + 1, ct.2.1, max ct.2.2.1 (fr.length + 1), ct.2.2.2), out, (0, -1, 0)) := by
        unfold aenter
        rw [if_neg h10, hkk, tk1, tk2]
      have hdo2 := hdo.trans hen
      have hrc2 := hrc.trans (one_ok (hgood ((doA_next hP).symm.trans hdo2) (fun z => absurd rfl z)) hdo2 rfl)
      refine EvC.fz (C_call (back := t) (args := A ++ [zel x k]) hst hfn hj (ihb L' rfl) (hd L' rfl) hL (hpw (k + 1)) (by rw [List.length_append]; exact hm) hR2 (fun o s' f' q hFz2 _ => ?_))
      rcases q with ⟨rfl, v, sh4, ct4, out4, k2, k3, k4⟩ | ⟨rfl, q⟩
      · have k2 : ct.1 + 1 ≤ ct4.1 := k2
        exact ⟨rfl, hQ v s' f' sh4 ct4 out4 (hFz.trans hFz2) (by omega) (hrc2.trans k3) k4⟩
      · exact hQt _ _ (oT.cut (A := []) (B := []) (W := [(kk, some x, 0, k + 1, zn x, dd, ee, 0)]) hrc2 (List.append_nil C).symm rfl rfl (fun q hq => by rw [List.mem_singleton.mp hq]; exact n2 (k + 1)) q)
/-- what each and fold leave -/
def oS (E : EN) (f0 : RH) (s0 : CS) (fuel : Nat) (Bb : Nat × Nat) (P : Pg) (σ : AS) (c0 b : Nat) (C pl : List Th) (fr : List Fm) (N : List Nat) (wy : List Wy) (o : KO) (s' : CS) (f' : RH) : Prop :=
  (o = .inl none ∧ ∃ (v : Th) (sh' : Nat → Option Th) (ct' : Ct) (out' : List Int32), c0 ≤ ct'.1 ∧ aRch P fuel σ (b, v :: pl, fr, wy, sh', ct', out', (0, -1, 0)) ∧ cR E f0 s0 fuel Bb (C ++ [v]) fr N sh' ct' out' s' f')
  ∨ (o = .inr 9 ∧ oT E f0 s0 fuel Bb P σ C pl fr N wy s' f')
theorem bI_and {a b : Bool} : bI (a && b) = if bI a = 0 then 0 else bI b := by cases a <;> cases b <;> rfl
theorem C_each (hst : l.stackTraces = false) (hfn : FnR f0 P F M G) (hj : j < M) (hnp : (P.2 j).1 = 1) (ihb : ∀ L', L = L' + 1 → XSp l E w f0 s0 fuel Bb P F M L' G) (hd6 : 6 ≤ d) (hd : ∀ L', L = L' + 1 → KD L' G + 2 ≤ d) (hL : fr.length + L = 10) (hpre : aPre C pl fr wy h 1 L) (hh : 70 ≤ h) (hP : P.1 t = (11, x2, j, y2, place)) (hx : ¬ zk x = 0) (hrc : aRch P fuel σ (t, pl, fr, (3, some x, 0, 0, zn x, pl.length, fr.length, 0) :: wy, sh, ct, out, (0, -1, 0))) (hR : cR E f0 s0 fuel Bb (C ++ [x]) fr N sh ct out s f) (hQ : ∀ o s' f', oS E f0 s0 fuel Bb P σ ct.1 (t + 1) C pl fr N wy o s' f' → Q o s' f') : EvC l E w d MX3_each [.ref (w.1 3), .ref (F j), .int place] s f Q := by
  obtain ⟨d, rfl⟩ : ∃ d', d = d' + 6 := ⟨d - 6, by omega⟩
  have hCl := hpre.2.2.1
  obtain ⟨hl8, e26, hxv, wx⟩ := hR.hi
  have h64 := zw_zn wx
  obtain ⟨p, c1, c2, c3, c4, hpx⟩ : ∃ p : Nat, s.2.2.2 25 C.length = .ref p ∧ p < f.2.2.2 ∧ ¬ zk x = 0 ∧ oc f p (28 + zk x) ∧ RT E f (s.2.2.2 25 C.length) x := by
    rcases hxv.cls with ⟨c, _⟩ | c
    · exact absurd c hx
    · exact c
  rw [c1] at hpx
  refine eX3_each hst (fun y1 ey1 => ?_)
  rw [e26, nI_pred] at ey1
  subst ey1
  rw [nI_clamp (n := C.length) (by omega)]
  refine ⟨inB_n (by omega), _, rfl, hxv.isR, fun e => (by rw [c1] at e; cases e), fun a3 e => ?_⟩
  rw [c1] at e
  cases e
  refine ⟨fun o s1 f2 => o = .inl (some (.int (nI (zn x)))) ∧ s1 = s ∧ f2 = f, ?_, C_size hst hpx ⟨rfl, rfl, rfl⟩⟩
  rintro o s1 f2 ⟨rfl, rfl, rfl⟩
  refine ⟨_, rfl, ?_⟩
  have hx0 : ((C ++ [x]).getD C.length (zI 0)) = x := by rw [List.getD_eq_getElem?_getD, List.getElem?_append_right (Nat.le_refl _), Nat.sub_self]; rfl
  have hF0 : Frz f0 f2 := hR.frz
  refine dn (P := fun k => ∀ (R : List Th) (s : CS) (f : RH) (sh' : Nat → Option Th) (ct' : Ct) (out' : List Int32), R.length = k → ct.1 ≤ ct'.1 → Frz f2 f → aRch P fuel σ (t, R.reverse ++ pl, fr, (3, some x, 0, k, zn x, pl.length, fr.length, 0) :: wy, sh', ct', out', (0, -1, 0)) → cR E f0 s0 fuel Bb (C ++ (x :: R)) fr N sh' ct' out' s f → ExC l E w (d + 6) MX3_each 43 [some (.ref (w.1 3)), some (.ref (F j)), some (.int place), some (.int (nI C.length)), some (.ref p), some (.int (nI (zn x))), some (.int (bI (R.all (fun t => zk t == 0)))), some (.int (bI (R.all (fun t => zk t == 1)))), some (.int (nI k))] [] s f Q) (zn x) ?_ (fun k hk ihk => ?_) [] s1 f2 sh ct out rfl (Nat.le_refl _) (Frz.rf f2) hrc hR
  · intro R s f sh' ct' out' hRl hct hFz hrc hR'
    have hpx' : RT E f (.ref p) x := hpx.frz hFz
    have hRZ : ∀ t ∈ R, ZW t := fun t ht => hR'.1.1.2.1 t (List.mem_append_right _ (List.mem_cons_of_mem _ ht))
    rw [← hRl]
    refine ExC.fz (C_eachEnd hst hR'.ok hx hpx' (fun o s' f' hc hFf hcb => hQ _ _ _ ?_))
    have hpw := hpre.wayn (q := (3, some x, 0, zn x, zn x, pl.length, fr.length, 0)) (by show ¬ 3 = 2; decide)
    have hdo := doA_next (fuel := fuel) (pl := R.reverse ++ pl) (fr := fr) (wy := (3, some x, 0, zn x, zn x, pl.length, fr.length, 0) :: wy) (sh := sh') (ct := ct') (out := out') hP
    have e1 : (R.reverse ++ pl).length - pl.length = R.length := by rw [List.length_append, List.length_reverse]; omega
    obtain ⟨tk1, tk2⟩ := take_rev R pl rfl
    have han : anext P fuel (11, x2, j, y2, place) t (R.reverse ++ pl) fr ((3, some x, 0, zn x, zn x, pl.length, fr.length, 0) :: wy) sh' ct' out' = afin (t + 1) (zeach x R) pl fr wy sh' ct' out' place := by
      rw [an_end, if_neg (by decide), e1, tk1, tk2]
    have hdo := hdo.trans han
    have good : ∀ {σ' : AS}, afin (t + 1) (zeach x R) pl fr wy sh' ct' out' place = σ' → (¬ (aT σ').1 = 0 → σ'.2.1 = pl ∧ σ'.2.2.1 = fr ∧ σ'.2.2.2.1 = wy) → aGood P fuel (t, R.reverse ++ pl, fr, (3, some x, 0, zn x, zn x, pl.length, fr.length, 0) :: wy, sh', ct', out', (0, -1, 0)) := by
      intro σ' e hz
      refine good11 hpw (fun t ht => hRZ t (List.mem_reverse.mp ht)) (by rw [List.length_reverse]; omega) hR'.2.2.2.2.2 hR'.2.2.2.1 hP (Or.inl rfl) hx (Nat.le_refl _) (by rw [List.length_append]; omega) (fun c => absurd c (by decide)) ?_
      rw [han, e]
      intro z
      obtain ⟨h1, h2, h3⟩ := hz z
      rw [h1, h2, h3]
      exact ⟨Nat.le_refl _, Nat.le_refl _, fun q hq _ => List.mem_cons_of_mem _ hq⟩
    rcases hR'.cop (by omega) hFf hcb hc with ⟨v, e, q1, rfl, q2⟩ | ⟨v, e, q1, rfl, q2⟩ | ⟨kq, e, rfl, q2⟩
    · have ha : afin (t + 1) (zeach x R) pl fr wy sh' ct' out' place = (t + 1, v :: pl, fr, wy, sh', (ct'.1, ct'.2.1 + zm v, ct'.2.2), out', (0, -1, 0)) := by rw [e]; exact if_neg q1
      exact Or.inl ⟨rfl, v, sh', (ct'.1, ct'.2.1 + zm v, ct'.2.2), out', hct, hrc.trans (one_ok (good ha (fun z => absurd rfl z)) (hdo.trans ha) rfl), q2⟩
    · have ha : afin (t + 1) (zeach x R) pl fr wy sh' ct' out' place = (t + 1, pl, fr, wy, sh', (ct'.1, ct'.2.1 + zm v, ct'.2.2), out', (11, place, 0)) := by rw [e]; exact if_pos q1
      have hd2 := hdo.trans ha
      refine Or.inr ⟨rfl, _, t + 1, pl, fr, fr, wy, sh', _, out', (11, place, 0), hrc, good ha (fun _ => ⟨rfl, rfl, rfl⟩), q2, rfl, rfl, Or.inr ⟨by show 10 ≤ 11; decide, Nat.le_refl 11, sh', ?_⟩⟩
      rw [stA_fin (by rw [hd2]; show 9 < 11; decide), hd2]
    · have ha : afin (t + 1) (zeach x R) pl fr wy sh' ct' out' place = (t + 1, pl, fr, wy, sh', ct', out', (kq, place, 0)) := by rw [e]; rfl
      obtain ⟨k1, k2⟩ := zkd_each x R kq e
      exact Or.inr ⟨rfl, _, t + 1, pl, fr, fr, wy, sh', ct', out', (kq, place, 0), hrc, good ha (fun _ => ⟨rfl, rfl, rfl⟩), q2, rfl, rfl, Or.inl ⟨k1, by show kq ≤ 9; omega, hdo.trans ha, ⟨[], rfl⟩, ⟨[], rfl⟩, [], rfl, fun q hq => absurd hq List.not_mem_nil⟩⟩
  · intro R s f sh' ct' out' hRl hct hFz hrc hR'
    have hRZ : ∀ t ∈ R, ZW t := fun t ht => hR'.1.1.2.1 t (List.mem_append_right _ (List.mem_cons_of_mem _ ht))
    have hpreR : aPre (C ++ (x :: R)) (R.reverse ++ pl) fr wy (h - 66) 1 L := by
      obtain ⟨k1, k2, k3, k4, k5⟩ := hpre
      refine ⟨fun t ht => ?_, ?_, ?_, k4, fun q hq h2 => ?_⟩
      · rcases List.mem_append.mp ht with z | z
        · exact hRZ t (List.mem_reverse.mp z)
        · exact k1 t z
      · rw [List.length_append, List.length_reverse]; omega
      · rw [List.length_append, List.length_cons]; omega
      · obtain ⟨a, b, c, e⟩ := k5 q hq h2
        exact ⟨by rw [List.length_append]; omega, b, c, e⟩
    have hxi : ((C ++ (x :: R)) ++ []).getD C.length (zI 0) = x := by
      rw [List.append_nil, List.getD_eq_getElem?_getD, List.getElem?_append_right (Nat.le_refl _), Nat.sub_self]; rfl
    have hR0 : cR E f0 s0 fuel Bb ((C ++ (x :: R)) ++ []) fr N sh' ct' out' s f := by rw [List.append_nil]; exact hR'
    refine vX3_each_43 (pk_le (zn x) k (fun c => by omega) (fun _ => ?_) rfl rfl)
    refine C_next (A := []) (kk := 3) (ee := fr.length) (dd := pl.length) hst hfn hj (by rw [hnp]; rfl) ihb (by omega) (fun L' e => by have := hd L' e; omega) hL hpreR (by show 0 + 2 ≤ h - 66; omega) (fun t ht => absurd ht List.not_mem_nil) hP (Or.inl rfl) rfl hx (by show pl.length ≤ (R.reverse ++ pl).length; rw [List.length_append]; omega) hk (by rw [List.append_nil, List.length_append, List.length_cons]; omega) hxi hrc hR0 (fun s' f' hT => ?_) (fun v s' f' sh4 ct4 out4 hFf q1 q2 q3 => ?_)
    · exact hQ _ _ _ (Or.inr ⟨rfl, oT.cut (A := x :: R) (B := R.reverse) (W := []) (aRch.rf _ _ _) rfl rfl rfl (fun q hq => absurd hq List.not_mem_nil) hT⟩)
    · obtain ⟨u1, u2, u3, u4⟩ := q3.hi
      have q4 := q3
      rw [List.append_assoc] at q4
      have q4 : cR E f0 s0 fuel Bb (C ++ (x :: (R ++ [v]))) fr N sh4 ct4 out4 s' f' := q4
      have nx := ihk (R ++ [v]) s' f' sh4 ct4 out4 (by rw [List.length_append, hRl]; rfl) (by omega) (hFz.trans hFf) (by rw [List.reverse_append]; exact q2) q4
      simp only [List.all_append, List.all_cons, List.all_nil, Bool.and_true] at nx
      rw [nI_1, u2, nI_pred, nI_clamp (n := (C ++ (x :: R)).length) (by omega)]
      generalize R.all (fun t => zk t == 0) = ia at nx
      generalize R.all (fun t => zk t == 1) = ib at nx
      have hin : inB (nI (C ++ (x :: R)).length) 8400 := inB_n (by omega)
      have hrow := u3.isRow 1 (by decide) (by decide)
      have rowpart : ∀ I : Int32, I = bI (ia && zk v == 0) → ((bI ib = 0 → ExC l E w (d + 5 + 1) MX3_each 43 [some (.ref (w.1 3)), some (.ref (F j)), some (.int place), some (.int (nI C.length)), some (.ref p), some (.int (nI (zn x))), some (.int I), some (.int 0), some (.int (nI (k + 1)))] [] s' f' Q) ∧ (¬ bI ib = 0 → (inB (nI (C ++ (x :: R)).length) 8400 ∧ ∃ v52 : Value, (s'.2.2.2 25 (C ++ (x :: R)).length) = v52 ∧ isR v52 = true ∧ (isT f' v52 ∧ ((∀ a54 : Nat, v52 = .ref a54 → tg f' a54 = some (.inl 29) → ExC l E w (d + 5 + 1) MX3_each 43 [some (.ref (w.1 3)), some (.ref (F j)), some (.int place), some (.int (nI C.length)), some (.ref p), some (.int (nI (zn x))), some (.int I), some (.int 1), some (.int (nI (k + 1)))] [] s' f' Q) ∧ ((∀ z : Nat, v52 = .ref z → ¬ tg f' z = some (.inl 29)) → ExC l E w (d + 5 + 1) MX3_each 43 [some (.ref (w.1 3)), some (.ref (F j)), some (.int place), some (.int (nI C.length)), some (.ref p), some (.int (nI (zn x))), some (.int I), some (.int 0), some (.int (nI (k + 1)))] [] s' f' Q)))))) := by
        intro I hI
        rw [← hI] at nx
        cases ib with
        | false => exact ⟨fun _ => nx, fun c => absurd rfl c⟩
        | true =>
          rw [Bool.true_and] at nx
          refine ⟨fun c => absurd c (by decide), fun _ => ⟨hin, _, rfl, u3.isR, u3.isT, ?_⟩⟩
          by_cases c : zk v = 1
          · obtain ⟨a54, c1, c2⟩ := hrow.1 c
            rw [c] at nx
            exact is_y (X := True) c1 c2 nx
          · rw [beq_false_of_ne c] at nx
            exact is_n (hrow.2 c) nx
      cases ia with
      | false => exact ⟨fun _ => rowpart 0 rfl, fun c => absurd rfl c⟩
      | true =>
        refine ⟨fun c => absurd c (by decide), fun _ => C_isInt hst (by omega) u3 ⟨_, rfl, fun c => ?_, fun c => ?_⟩⟩
        · rw [u2, nI_pred, nI_clamp (n := (C ++ (x :: R)).length) (by omega)]
          exact rowpart 0 (by rw [Bool.true_and, c])
        · rw [u2, nI_pred, nI_clamp (n := (C ++ (x :: R)).length) (by omega)]
          exact rowpart 1 (by rw [bI_1 c]; rfl)
theorem C_each0 (hst : l.stackTraces = false) (hx : zk x = 0) (hR : cR E f0 s0 fuel Bb (C ++ [x]) fr N sh ct out s f) (hQ : cT E f0 s0 fuel Bb C fr N sh ct out (3, place, 0) (cwrong s 3 place) f → Q (.inr 9) (cwrong s 3 place) f) : EvC l E w (d + 1) MX3_each [.ref (w.1 3), .ref p, .int place] s f Q := by
  obtain ⟨hl8, e26, hxv, wx⟩ := hR.hi
  refine eX3_each hst (fun y1 ey1 => ?_)
  rw [e26, nI_pred] at ey1
  subst ey1
  rw [nI_clamp (n := C.length) (by omega)]
  rcases hxv.cls with ⟨c0, c1, _⟩ | ⟨_, _, _, c, _⟩
  · exact ⟨inB_n (by omega), _, rfl, hxv.isR, fun e => C_wrong hst (Q := Q) (hQ (hR.wrong rfl)) (fun _ _ _ => rfl), fun a3 e => by rw [c1] at e; cases e⟩
  · exact absurd hx c
theorem C_fold0 (hst : l.stackTraces = false) (hx : zk x = 0) (hR : cR E f0 s0 fuel Bb (C ++ [v, x]) fr N sh ct out s f) (hQ : cT E f0 s0 fuel Bb C fr N sh ct out (3, place, 0) (cwrong s 3 place) f → Q (.inr 9) (cwrong s 3 place) f) : EvC l E w (d + 1) MX3_fold [.ref (w.1 3), .ref p, .int place] s f Q := by
  have hR2 := hR
  rw [show C ++ [v, x] = (C ++ [v]) ++ [x] by rw [List.append_assoc]; rfl] at hR2
  obtain ⟨hl8, e26, hxv, wx⟩ := hR2.hi
  refine eX3_fold hst (fun y1 ey1 => ?_)
  rw [e26, nI_pred] at ey1
  subst ey1
  rw [nI_clamp (n := (C ++ [v]).length) (by omega)]
  rcases hxv.cls with ⟨c0, c1, _⟩ | ⟨_, _, _, c, _⟩
  · exact ⟨inB_n (by omega), _, rfl, hxv.isR, fun e => C_wrong hst (Q := Q) (hQ (hR.wrong rfl)) (fun _ _ _ => rfl), fun a3 e => by rw [c1] at e; cases e⟩
  · exact absurd hx c
theorem C_fold (hst : l.stackTraces = false) (hfn : FnR f0 P F M G) (hj : j < M) (hnp : (P.2 j).1 = 2) (ihb : ∀ L', L = L' + 1 → XSp l E w f0 s0 fuel Bb P F M L' G) (hd6 : 6 ≤ d) (hd : ∀ L', L = L' + 1 → KD L' G + 2 ≤ d) (hL : fr.length + L = 10) (hpre : aPre C pl fr wy h 1 L) (hh : 70 ≤ h) (hP : P.1 t = (11, x2, j, y2, place)) (hx : ¬ zk x = 0) (hrc : aRch P fuel σ (t, v :: pl, fr, (4, some x, 0, 0, zn x, pl.length + 1, fr.length, 0) :: wy, sh, ct, out, (0, -1, 0))) (hR : cR E f0 s0 fuel Bb (C ++ [v, x]) fr N sh ct out s f) (hQ : ∀ o s' f', oS E f0 s0 fuel Bb P σ ct.1 (t + 1) C pl fr N wy o s' f' → Q o s' f') : EvC l E w d MX3_fold [.ref (w.1 3), .ref (F j), .int place] s f Q := by
  obtain ⟨d, rfl⟩ : ∃ d', d = d' + 6 := ⟨d - 6, by omega⟩
  have hCl := hpre.2.2.1
  have hR2 := hR
  rw [show C ++ [v, x] = (C ++ [v]) ++ [x] by rw [List.append_assoc]; rfl] at hR2
  obtain ⟨hl8, e26, hxv, wx⟩ := hR2.hi
  have hlv : (C ++ [v]).length = C.length + 1 := by rw [List.length_append]; rfl
  rw [hlv] at hl8 e26 hxv
  have h64 := zw_zn wx
  have hO := hR.ok (C0 := C) (A := [v, x])
  obtain ⟨hv0, -, wv, -, -, -⟩ := hO.v2
  obtain ⟨p, c1, c2, c3, c4, hpx⟩ : ∃ p : Nat, s.2.2.2 25 (C.length + 1) = .ref p ∧ p < f.2.2.2 ∧ ¬ zk x = 0 ∧ oc f p (28 + zk x) ∧ RT E f (s.2.2.2 25 (C.length + 1)) x := by
    rcases hxv.cls with ⟨c, _⟩ | c
    · exact absurd c hx
    · exact c
  rw [c1] at hpx
  refine eX3_fold hst (fun y1 ey1 => ?_)
  rw [e26, nI_pred] at ey1
  subst ey1
  rw [nI_clamp (n := C.length + 1) (by omega)]
  refine ⟨inB_n (by omega), _, rfl, hxv.isR, fun e => (by rw [c1] at e; cases e), fun a3 e => ?_⟩
  rw [c1] at e
  cases e
  refine ⟨fun o s1 f2 => o = .inl (some (.int (nI (zn x)))) ∧ s1 = s ∧ f2 = f, ?_, C_size hst hpx ⟨rfl, rfl, rfl⟩⟩
  rintro o s1 f2 ⟨rfl, rfl, rfl⟩
  refine ⟨_, rfl, ?_⟩
  rw [nI_pred, nI_clamp (n := C.length) (by omega)]
  have hl3 : (C ++ [v, x]).length = C.length + 2 := by rw [List.length_append]; rfl
  have h26 : s1.1 26 = nI (C.length + 2) := by rw [e26]
  refine ⟨inB_n (by omega), C_push hst h26 (by omega) ⟨rfl, inB_n (by omega), _, rfl, ?_, ?_⟩⟩
  · show isR (if 25 = 25 ∧ C.length = C.length + 2 then Value.null else s1.2.2.2 25 C.length) = true
    rw [if_neg (fun z => by omega)]; exact hv0.isR
  have ecell : (cpsh s1 (C.length + 2) (s1.2.2.1 24 C.length) .null).2.2.2 25 C.length = s1.2.2.2 25 C.length := by
    show (if 25 = 25 ∧ C.length = C.length + 2 then Value.null else s1.2.2.2 25 C.length) = _
    rw [if_neg (fun z => by omega)]
  rw [ecell]
  have e26' : (cpsh s1 (C.length + 2) (s1.2.2.1 24 C.length) .null).1 26 = nI (C.length + 3) := rfl
  rw [e26', show nI (C.length + 3) - 1 = nI (C.length + 2) from nI_pred (C.length + 2), nI_clamp (n := C.length + 2) (by omega)]
  refine ⟨inB_n (by omega), hv0.isT, ?_⟩
  have hR3 : cR E f0 s0 fuel Bb (C ++ [v, x] ++ [v]) fr N sh ct out (uT (cpsh s1 (C.length + 2) (s1.2.2.1 24 C.length) .null) 25 (C.length + 2) (s1.2.2.2 25 C.length)) f2 := by
    refine hR.push (k := s1.2.2.1 24 C.length) (x := s1.2.2.2 25 C.length) (by rw [hl3]; omega) ?_ (by rw [hl3]; rfl) rfl ?_ ?_ hv0 wv
    · rw [hl3]
      exact (cpsh_fr JC s1 _ _ (Nat.le_refl _)).trans (cfr.uT JC _ _ (Nat.le_refl _))
    · rw [hl3]
      show (if 24 = 24 ∧ C.length + 2 = C.length + 2 then s1.2.2.1 24 C.length else s1.2.2.1 24 (C.length + 2)) = _
      rw [if_pos ⟨rfl, rfl⟩]
    · rw [hl3]
      show (if 25 = 25 ∧ C.length + 2 = C.length + 2 then s1.2.2.2 25 C.length else _) = _
      rw [if_pos ⟨rfl, rfl⟩]
  refine dn (P := fun k => ∀ (y : Th) (s : CS) (f : RH) (sh' : Nat → Option Th) (ct' : Ct) (out' : List Int32), ct.1 ≤ ct'.1 → aRch P fuel σ (t, y :: pl, fr, (4, some x, 0, k, zn x, pl.length + 1, fr.length, 0) :: wy, sh', ct', out', (0, -1, 0)) → cR E f0 s0 fuel Bb (C ++ [v, x] ++ [y]) fr N sh' ct' out' s f → ExC l E w (d + 6) MX3_fold 68 [some (.ref (w.1 3)), some (.ref (F j)), some (.int place), some (.int (nI (C.length + 1))), none, some (.int (nI (zn x))), some (.int (nI k))] [] s f Q) (zn x) ?_ (fun k hk ihk => ?_) v _ f2 sh ct out (Nat.le_refl _) hrc hR3
  · intro y s f sh' ct' out' hct hrc hR'
    have wy' := hR'.hi.2.2.2
    refine vX3_fold_68 (pk_le (zn x) (zn x) (fun _ => ?_) (fun c => by omega) rfl rfl)
    rw [nI_pred]
    refine C_down hst hR' (fun s2 hR4 => ⟨rfl, hQ _ _ _ (Or.inl ⟨rfl, y, sh', ct', out', hct, hrc.trans ?_, hR4⟩)⟩)
    have hpw := hpre.wayn (q := (4, some x, 0, zn x, zn x, pl.length + 1, fr.length, 0)) (by show ¬ 4 = 2; decide)
    have hdo := doA_next (fuel := fuel) (pl := y :: pl) (fr := fr) (wy := (4, some x, 0, zn x, zn x, pl.length + 1, fr.length, 0) :: wy) (sh := sh') (ct := ct') (out := out') hP
    rw [an_end, if_pos rfl] at hdo
    refine one_ok (good11 (A := [y]) hpw (fun t ht => by rw [List.mem_singleton.mp ht]; exact wy') (by show 1 ≤ h + 100; omega) hR'.2.2.2.2.2 hR'.2.2.2.1 hP (Or.inr rfl) hx (Nat.le_refl _) (Nat.le_refl _) (fun _ => Nat.le_add_left _ _) ?_) hdo rfl
    rw [an_end, if_pos rfl]
    exact fun z => absurd rfl z
  · intro y s f sh' ct' out' hct hrc hR'
    have wy' := hR'.hi.2.2.2
    have hpreV : aPre (C ++ [v, x]) pl fr wy (h - 60) 1 L := by
      obtain ⟨k1, k2, k3, k4, k5⟩ := hpre
      exact ⟨k1, by omega, by rw [hl3]; omega, k4, k5⟩
    have hxi : ((C ++ [v, x]) ++ [y]).getD (C.length + 1) (zI 0) = x := by
      rw [List.append_assoc, List.getD_eq_getElem?_getD, List.getElem?_append_right (by omega), show C.length + 1 - C.length = 1 by omega]; rfl
    refine vX3_fold_68 (pk_le (zn x) k (fun c => by omega) (fun _ => ?_) rfl rfl)
    refine C_next (A := [y]) (kk := 4) (ee := fr.length) (dd := pl.length + 1) hst hfn hj (by rw [hnp]; rfl) ihb (by omega) (fun L' e => by have := hd L' e; omega) hL hpreV (by show 1 + 2 ≤ h - 60; omega) (fun t ht => by rw [List.mem_singleton.mp ht]; exact wy') hP (Or.inr rfl) rfl hx (Nat.le_refl _) hk (by rw [List.length_append, hl3]; show C.length + 1 < C.length + 2 + 1; omega) hxi hrc hR' (fun s' f' hT => ?_) (fun v' s' f' sh4 ct4 out4 hFf q1 q2 q3 => ?_)
    · exact hQ _ _ _ (Or.inr ⟨rfl, oT.cut (A := [v, x]) (B := []) (W := []) (aRch.rf _ _ _) rfl rfl rfl (fun q hq => absurd hq List.not_mem_nil) hT⟩)
    · rw [nI_1]
      exact ihk v' s' f' sh4 ct4 out4 (by omega) q2 q3
end CDd2
