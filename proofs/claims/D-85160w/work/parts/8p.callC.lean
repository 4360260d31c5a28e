/-! THE COMPONENT'S TREES: a call -/
/-- the functions: what a definition is, and where its orders lie -/
def FnR (f0 : RH) (P : Pg) (F : Nat → Nat) (M G : Nat) : Prop := ∀ j, j < M → ∃ (nv e u h x y x2 y2 : Nat) (z z2 z3 : Int32), F j < f0.2.2.2 ∧ oc f0 (F j) 12 ∧ vl f0 (F j) 155 = .int (nI (P.2 j).1) ∧ vl f0 (F j) 156 = .int (nI nv) ∧ (P.2 j).1 ≤ nv ∧ nv ≤ 14 ∧ RepX f0 P F M nv G false (vl f0 (F j) 158) (P.2 j).2 e u h ∧ u ≤ 37 ∧ h ≤ 700 ∧ P.1 e = (2, x, y, 0, z) ∧ P.1 (e + 1) = (20, x2, y2, z2, z3)
section CDb
variable {l : Launch} {E : EN} {w : CO} {d : Nat} {s s' s0 : CS} {f f' f0 : RH} {Q : KO → CS → RH → Prop} {fuel : Nat} {Bb : Nat × Nat} {P : Pg} {F : Nat → Nat} {C pl A B : List Th} {fr fr' : List Fm} {N : List Nat} {wy wy' W : List Wy} {sh sh' : Nat → Option Th} {ct ct' : Ct} {out out' : List Int32} {a b t j e n h u L p g M nv m : Nat} {z place : Int32} {v : Th} {fm : Fm}
theorem cR.there (h : cR E f0 s0 fuel Bb C fr N sh ct out s f) (hm : 14 * fr.length ≤ m) : cR E f0 s0 fuel Bb C fr N sh ct out (uA s 29 m z) f := by
  have hA : ∀ j, ¬ j = 29 → (uA s 29 m z).2.2.1 j = s.2.2.1 j := fun j hj => by funext n; exact if_neg (fun c => hj c.1)
  have h0 : cR E f0 s0 fuel Bb (C ++ []) fr N sh ct out s f := by rw [List.append_nil]; exact h
  refine h0.names (fun _ _ => rfl) h.2.1 rfl (fun j hj => hA j (fun c => hj (by rw [c]; decide))) (fun _ _ => rfl) (cFr.low (s := s) (s' := uA s 29 m z) (B := 14 * fr.length) (Frz.rf f) (fun i _ => by rw [hA 27 (by decide)]) (fun _ _ => rfl) (fun i hi => if_neg (fun c => by omega)) (Nat.le_refl _) h.1.2.1) rfl (fun k hk => ?_)
  rw [hA 46 (by decide), hA 42 (by decide)]
  exact h.1.2.2.1 k hk
theorem cR.var {n1 : Int32} {x1 : Value} (h : cR E f0 s0 fuel Bb (C ++ [v]) fr N sh ct out s f) (hm : 14 * fr.length ≤ m) : cR E f0 s0 fuel Bb C fr N sh ct out (uT (uA (uI s 26 (nI C.length)) 27 m n1) 28 m x1) f := by
  have hA : ∀ j, ¬ j = 27 → (uT (uA (uI s 26 (nI C.length)) 27 m n1) 28 m x1).2.2.1 j = s.2.2.1 j := fun j hj => by funext n; exact if_neg (fun c => hj c.1)
  have hB : ∀ j, ¬ j = 28 → (uT (uA (uI s 26 (nI C.length)) 27 m n1) 28 m x1).2.2.2 j = s.2.2.2 j := fun j hj => by funext n; exact if_neg (fun c => hj c.1)
  refine h.names (fun j hj => if_neg hj) rfl rfl (fun j hj => hA j (fun c => hj (by rw [c]; decide))) (fun j hj => hB j (fun c => hj (by rw [c]; decide))) (cFr.low (s := s) (s' := uT (uA (uI s 26 (nI C.length)) 27 m n1) 28 m x1) (B := 14 * fr.length) (Frz.rf f) (fun i hi => if_neg (fun c => by omega)) (fun i hi => if_neg (fun c => by omega)) (fun i _ => by rw [hA 29 (by decide)]) (Nat.le_refl _) h.1.2.1) rfl (fun k hk => ?_)
  rw [hA 46 (by decide), hA 42 (by decide), hB 44 (by decide)]
  exact h.1.2.2.1 k hk
theorem cR.enter (h : cR E f0 s0 fuel Bb C fr N sh ct out s f) (hl : fr.length < 10) (hnv : nv ≤ 14) (hv : ∀ k, k < nv → cVar E f (s.2.2.1 29 (14 * fr.length + k)) (s.2.2.1 27 (14 * fr.length + k)) (s.2.2.2 28 (14 * fr.length + k)) (fm.1 k)) : cR E f0 s0 fuel Bb C (fm :: fr) (nv :: N) sh (ct.1, ct.2.1, max ct.2.2.1 (fr.length + 1), ct.2.2.2) out (uI (uI s 36 (s.1 36 + 1)) 37 (if s.1 37 < s.1 36 + 1 then s.1 36 + 1 else s.1 37)) f := by
  obtain ⟨⟨h1, h2, h3, ⟨a1, a2, a3, a4, a5⟩, ⟨c1, c2, c3, c4⟩, o, ⟨k1, k2, k3, k4⟩, e⟩, g1, g2, g3, g4, g5⟩ := h
  have e37 : (if s.1 37 < s.1 36 + 1 then s.1 36 + 1 else s.1 37) = nI (max ct.2.2.1 (fr.length + 1)) := by
    rw [a1, g2, nI_1]
    have hlt : nI ct.2.2.1 < nI (fr.length + 1) ↔ ct.2.2.1 < fr.length + 1 := by rw [i32_lt (by omega), nI_toInt (by omega)]; omega
    by_cases c : ct.2.2.1 < fr.length + 1
    · rw [if_pos (hlt.mpr c), Nat.max_eq_right (by omega)]
    · rw [if_neg (fun z => c (hlt.mp z)), Nat.max_eq_left (by omega)]
  refine ⟨⟨h1, ⟨⟨hnv, hv⟩, cFr.mv (s := s) (s' := uI (uI s 36 (s.1 36 + 1)) 37 (if s.1 37 < s.1 36 + 1 then s.1 36 + 1 else s.1 37)) (Frz.rf f) rfl rfl rfl h2⟩, h3, ⟨e37, a2, a3, a4, a5⟩, ⟨c1, by show max ct.2.2.1 (fr.length + 1) ≤ 10; omega, c3, c4⟩, o, ⟨fun j hj => ?_, k2, k3, k4⟩, e⟩, g1, ?_, g3, g4, by show 1 ≤ fr.length + 1; omega, by show fr.length + 1 ≤ 10; omega⟩
  · have n37 : ¬ j = 37 := fun c => hj (by rw [c]; decide)
    have n36 : ¬ j = 36 := fun c => hj (by rw [c]; decide)
    exact ((if_neg n37).trans (if_neg n36)).trans (k1 j hj)
  · show s.1 36 + 1 = nI (fr.length + 1)
    rw [g2, nI_1]
theorem cR.leave (h : cR E f0 s0 fuel Bb C (fm :: fr) (nv :: N) sh ct out s f) (hf : 1 ≤ fr.length) : cR E f0 s0 fuel Bb C fr N sh ct out (uI s 36 (s.1 36 - 1)) f := by
  obtain ⟨⟨h1, h2, h3, ⟨a1, a2, a3, a4, a5⟩, c, o, ⟨k1, k2, k3, k4⟩, e⟩, g1, g2, g3, g4, g5⟩ := h
  refine ⟨⟨h1, cFr.mv (s := s) (s' := uI s 36 (s.1 36 - 1)) (Frz.rf f) rfl rfl rfl h2.2, h3, ⟨a1, a2, a3, a4, a5⟩, c, o, ⟨fun j hj => ?_, k2, k3, k4⟩, e⟩, g1, ?_, g3, g4, hf, by have := g5.2; rw [List.length_cons] at this; omega⟩
  · exact (if_neg (fun c => hj (by rw [c]; decide))).trans (k1 j hj)
  · show s.1 36 - 1 = nI fr.length
    rw [g2]; exact nI_pred fr.length
/-- a trouble in a call -/
theorem oT.ret {σ : AS} (h : oT E f0 s0 fuel Bb P σ C pl (fm :: fr) (nv :: N) wy s' f') : oT E f0 s0 fuel Bb P σ C pl fr N wy s' f' := by
  obtain ⟨σ1, pc, pl', fr1, frB, wy', sh1, ct1, out1, tr, h1, h2, h3, h4, h4b, h5⟩ := h
  have htl : frB.tail = fr := h4b
  match frB, h4, htl, h3, h5 with
  | [], h4, _, _, _ => cases h4
  | q :: r, h4, htl, h3, h5 =>
    have htl : r = fr := htl
    subst htl
    refine ⟨σ1, pc, pl', fr1, r, wy', sh1, ct1, out1, tr, h1, h2, ⟨⟨h3.1.1, h3.1.2.1.2, h3.1.2.2⟩, h3.2⟩, rfl, rfl, ?_⟩
    rcases h5 with ⟨g1, g2, g3, g4, ⟨ex, g5⟩, g6⟩ | h5
    · exact Or.inl ⟨g1, g2, g3, g4, ⟨ex ++ [q], by rw [g5, List.append_assoc]; rfl⟩, g6⟩
    · exact Or.inr h5
/-- a trouble over more of the piles, and over ways that are no tries -/
theorem oT.cut {σ σ' : AS} {C' pl' : List Th} (hr : aRch P fuel σ σ') (hC : C' = C ++ A) (hp : pl' = B ++ pl) (hw : wy' = W ++ wy) (hW : ∀ q ∈ W, ¬ q.1 = 2) (h : oT E f0 s0 fuel Bb P σ' C' pl' fr N wy' s' f') : oT E f0 s0 fuel Bb P σ C pl fr N wy s' f' := by
  subst hC hp hw
  obtain ⟨σ1, pc, pl1, fr1, frB, wy1, sh1, ct1, out1, tr, h1, h2, h3, h4, h4b, h5⟩ := h
  refine ⟨σ1, pc, pl1, fr1, frB, wy1, sh1, ct1, out1, tr, hr.trans h1, h2, h3.drop, h4, h4b, ?_⟩
  rcases h5 with ⟨a1, a2, a3, ⟨ex, a4⟩, a5, ex2, a6, a7⟩ | h5
  · refine Or.inl ⟨a1, a2, a3, ⟨ex ++ B, by rw [a4, List.append_assoc]⟩, a5, ex2 ++ W, by rw [a6, List.append_assoc], fun r hr => ?_⟩
    rcases List.mem_append.mp hr with hr | hr
    · exact a7 r hr
    · exact hW r hr
  · exact Or.inr h5
theorem aSame.cons {fr2 : List Fm} (h : aSame (fm :: fr) fr2) : ∃ fm2 : Fm, fr2 = fm2 :: fr ∧ fm2.2 = fm.2 := by
  obtain ⟨h1, h2⟩ := h
  match fr2, h1, h2 with
  | [], h1, _ => cases h1
  | q :: r, h1, h2 =>
    have h2 : r = fr := h2
    subst h2
    rw [List.map_cons, List.map_cons] at h1
    injection h1 with h1 _
    exact ⟨q, rfl, h1⟩
/-- GIVES -/
theorem gives_ok {back : Nat} {ex : List Wy} {fm2 : Fm} (hpre : aPre C pl fr wy h u L) (hl : fr.length < 10) (hv : ZW v) (hm : ct.2.1 ≤ 3000) (hP : (P.1 t).1 = 20) (he : ex.length + wy.length ≤ 389) (hfm : fm2.2 = (pl.length, back, wy.length)) : aRch P fuel (t, v :: pl, fm2 :: fr, ex ++ wy, sh, ct, out, (0, -1, 0)) (back, v :: pl, fr, wy, sh, ct, out, (0, -1, 0)) := by
  obtain ⟨fv, fb⟩ := fm2
  have hfm : fb = (pl.length, back, wy.length) := hfm
  subst hfm
  have hd : doA P fuel (t, v :: pl, (fv, pl.length, back, wy.length) :: fr, ex ++ wy, sh, ct, out, (0, -1, 0)) = (back, v :: pl, fr, wy, sh, ct, out, (0, -1, 0)) := by
    show (if (P.1 t).1 = 1 ∨ (P.1 t).1 = 16 then _ else if (P.1 t).1 = 2 then _ else if (P.1 t).1 = 3 then _ else if (P.1 t).1 < 11 then _ else if (P.1 t).1 = 11 then _ else if (P.1 t).1 = 12 then _ else if (P.1 t).1 = 13 then _ else if (P.1 t).1 = 14 then _ else if (P.1 t).1 = 15 then _ else if (P.1 t).1 = 17 then _ else if (P.1 t).1 = 18 then _ else if (P.1 t).1 = 19 then _ else if (P.1 t).1 = 20 then (back, v :: (v :: pl).drop ((v :: pl).length - pl.length), fr, (ex ++ wy).drop ((ex ++ wy).length - wy.length), sh, ct, out, (0, -1, 0)) else _) = _
    rw [if_neg (by omega), if_neg (by omega), if_neg (by omega), if_neg (by omega), if_neg (by omega), if_neg (by omega), if_neg (by omega), if_neg (by omega), if_neg (by omega), if_neg (by omega), if_neg (by omega), if_neg (by omega), if_pos hP]
    have e1 : (v :: pl).length - pl.length = 1 := by rw [List.length_cons]; omega
    have e2 : (ex ++ wy).length - wy.length = ex.length := by rw [List.length_append]; omega
    rw [e1, e2, List.drop_left]; rfl
  refine one_ok ⟨?_, by show fr.length + 1 ≤ 10; omega, by show 1 ≤ fr.length + 1; omega, ?_, ?_, hm, rfl, ?_, ?_⟩ hd rfl
  · have := hpre.2.1
    show pl.length + 1 ≤ 8300; omega
  · show (ex ++ wy).length ≤ 390
    rw [List.length_append]; omega
  · intro x hx
    rcases List.mem_cons.mp hx with rfl | hx
    · exact hv
    · exact hpre.1 x hx
  · refine ⟨by omega, ?_, fun z => by omega, fun z => by omega, fun z => by omega, fun _ => ⟨Nat.le_refl _, by rw [List.length_append]; omega⟩, fun z => by omega⟩
    unfold aNeed
    rw [if_pos (by omega)]
    exact Nat.le_add_left 1 _
  · show aTk (doA P fuel (t, v :: pl, (fv, pl.length, back, wy.length) :: fr, ex ++ wy, sh, ct, out, (0, -1, 0)))
    rw [hd]; exact fun z => absurd rfl z
/-- INT -/
theorem int_ok {x y : Nat} {c q : Int32} (hpre : aPre C pl fr wy h u L) (hf : 1 ≤ fr.length ∧ fr.length ≤ 10) (hm : ct.2.1 ≤ 3000) (hP : P.1 a = (2, x, y, c, q)) : aRch P fuel (a, pl, fr, wy, sh, ct, out, (0, -1, 0)) (a + 1, zI c :: pl, fr, wy, sh, ct, out, (0, -1, 0)) := by
  have h1 : (P.1 a).1 = 2 := by rw [hP]
  have hd : doA P fuel (a, pl, fr, wy, sh, ct, out, (0, -1, 0)) = (a + 1, zI c :: pl, fr, wy, sh, ct, out, (0, -1, 0)) := by
    show (if (P.1 a).1 = 1 ∨ (P.1 a).1 = 16 then _ else if (P.1 a).1 = 2 then (a + 1, zI (P.1 a).2.2.2.1 :: pl, fr, wy, sh, ct, out, (0, -1, 0)) else _) = _
    rw [if_neg (by omega), if_pos h1, hP]
  refine one_ok (good0 (k := 2) hpre hf hm h1 (by decide) (by rw [hP]; rfl) ?_) hd rfl
  rw [hd]; exact fun z => absurd rfl z
/-- what a call leaves -/
def oC (E : EN) (f0 : RH) (s0 : CS) (fuel : Nat) (Bb : Nat × Nat) (P : Pg) (j back : Nat) (args C pl : List Th) (fr : List Fm) (N : List Nat) (wy : List Wy) (sh : Nat → Option Th) (ct : Ct) (out : List Int32) (o : KO) (s' : CS) (f' : RH) : Prop :=
  (o = .inl none ∧ ∃ (v : Th) (sh' : Nat → Option Th) (ct' : Ct) (out' : List Int32), ct.1 ≤ ct'.1 ∧ aRch P fuel ((P.2 j).2, pl, (avars args, pl.length, back, wy.length) :: fr, wy, sh, (ct.1, ct.2.1, max ct.2.2.1 (fr.length + 1), ct.2.2.2), out, (0, -1, 0)) (back, v :: pl, fr, wy, sh', ct', out', (0, -1, 0)) ∧ cR E f0 s0 fuel Bb (C ++ [v]) fr N sh' ct' out' s' f')
  ∨ (o = .inr 9 ∧ oT E f0 s0 fuel Bb P ((P.2 j).2, pl, (avars args, pl.length, back, wy.length) :: fr, wy, sh, (ct.1, ct.2.1, max ct.2.2.1 (fr.length + 1), ct.2.2.2), out, (0, -1, 0)) C pl fr N wy s' f')
theorem C_call0 (hst : l.stackTraces = false) (hR : cR E f0 s0 fuel Bb (C ++ A) fr N sh ct out s f) (hf : fr.length = 10) (hQ : cT E f0 s0 fuel Bb C fr N sh ct out (8, place, 0) (cwrong s 8 place) f → Q (.inr 9) (cwrong s 8 place) f) : EvC l E w (d + 1) MX3_call [.ref (w.1 3), .ref p, .int place] s f Q := by
  have e36 : s.1 36 = 10 := by rw [hR.2.2.1, hf]; rfl
  exact eX3_call hst ⟨fun c => absurd e36 c, fun _ => C_wrong hst (Q := Q) (hQ (hR.wrong rfl)) (fun _ _ _ => rfl)⟩
theorem C_call (hst : l.stackTraces = false) {L' G back : Nat} {args : List Th} (hfn : FnR f0 P F M G) (hj : j < M) (ihb : XSp l E w f0 s0 fuel Bb P F M L' G) (hd : KD L' G + 1 ≤ d) (hL : fr.length + (L' + 1) = 10) (hpre : aPre C pl fr wy h 0 (L' + 1)) (hA : args.length = (P.2 j).1) (hR : cR E f0 s0 fuel Bb (C ++ args) fr N sh ct out s f) (hQ : ∀ o s' f', oC E f0 s0 fuel Bb P j back args C pl fr N wy sh ct out o s' f' → Q o s' f') : EvC l E w d MX3_call [.ref (w.1 3), .ref (F j), .int place] s f Q := by
  obtain ⟨nv, e, u, h2, x, y, x2, y2, z, z2, z3, b1, b2, b3, b4, b5, b6, b7, b8, b9, b10, b11⟩ := hfn j hj
  generalize hnp : (P.2 j).1 = np at hA b3 b5
  obtain ⟨d, rfl⟩ : ∃ d', d = d' + 1 := ⟨d - 1, by omega⟩
  have hF := hR.frz
  have hf := hR.2.2.2.2.2
  have hCl := hpre.2.2.1
  have ho := hF.ocE b1 b2
  have h155 : vl f (F j) 155 = .int (nI np) := by rw [hF.vlE b1]; exact b3
  have h156 : vl f (F j) 156 = .int (nI nv) := by rw [hF.vlE b1]; exact b4
  have hlenA : (C ++ args).length = C.length + np := by rw [List.length_append, hA]
  have hvZ : ∀ t ∈ args, ZW t := fun t ht => hR.1.1.2.1 t (List.mem_append_right _ ht)
  have hC14 : 14 * fr.length + 14 ≤ 140 := by omega
  have down : ∀ k, k ≤ np → ∀ s1 : CS, cR E f0 s0 fuel Bb (C ++ args.take k) fr N sh ct out s1 f → (∀ i, i < nv → s1.2.2.1 29 (14 * fr.length + i) = if i < np then 1 else 0) → (∀ i, k ≤ i → i < np → rcV E f (s1.2.2.1 27 (14 * fr.length + i)) (s1.2.2.2 28 (14 * fr.length + i)) (args.getD i (zI 0))) → ExC l E w (d + 1) MX3_call 74 [some (.ref (w.1 3)), some (.ref (F j)), none, some (.int (nI (14 * fr.length))), some (.int (nI k - 1))] [] s1 f Q := by
    intro k
    induction k with
    | zero =>
      intro _ s1 hR1 ht hv
      rw [List.take_zero, List.append_nil] at hR1
      have hent := hR1.enter (nv := nv) (fm := (avars args, pl.length, back, wy.length)) (by omega) b6 (fun k hk => by
        rw [ht k hk]
        show cVar E f _ _ _ (args[k]?)
        by_cases c : k < np
        · rw [if_pos c, List.getElem?_eq_getElem (by omega), ← getD_lt (zI 0) (by omega)]
          exact ⟨rfl, hv k (Nat.zero_le _) c, hvZ _ (getD_mem _ (by omega))⟩
        · rw [if_neg c, List.getElem?_eq_none (by omega)]
          exact (rfl : (0 : Int32) = 0))
      have hpreB : aPre C pl ((avars args, pl.length, back, wy.length) :: fr) wy h2 (u + 1) L' := by
        obtain ⟨k1, k2, k3, k4, k5⟩ := hpre
        refine ⟨k1, by omega, by omega, by omega, fun q hq h2 => ?_⟩
        obtain ⟨c1, c2, c3, c4⟩ := k5 q hq h2
        exact ⟨c1, c2, by rw [List.length_cons]; omega, c4⟩
      obtain ⟨p1, e1, o1, hw1⟩ := ihb nv _ (P.2 j).2 e u h2 b7 d _ f pl C _ (nv :: N) wy sh _ out (by omega) (by rw [List.length_cons]; omega) rfl hpreB hent (fun o s9 f10 => KP o (fun r => ∃ v11 : Int32, r = some (.int v11) ∧ ((¬ v11 = 0 → Q (.inl none) (uI s9 36 ((s9.1 36) - 1)) f10) ∧ (v11 = 0 → (EvC l E w d MX3_push [.ref (w.1 3), .int 0] s9 f10 (fun o s12 f13 => KP o (fun r => r = none ∧ Q (.inl none) (uI s12 36 ((s12.1 36) - 1)) f13) (fun k => Q (.inr k) s12 f13)))))) (fun k => Q (.inr k) s9 f10)) (fun o s9 f10 k => by
          rcases k with ⟨rfl, fr4, sh4, ct4, out4, k1, k2, k3, k4⟩ | ⟨rfl, t, v, fr4, ex, sh4, ct4, out4, k1, k2, k3, k3b, k4, k5⟩ | ⟨rfl, k⟩
          · obtain ⟨fm2, rfl, hfm⟩ := k1.cons
            refine ⟨_, rfl, fun z => absurd rfl z, fun _ => C_push hst k4.2.1 (by omega) ⟨rfl, hQ _ _ _ (Or.inl ⟨rfl, zI 0, sh4, ct4, out4, k2, k3.trans ((int_ok (hpreB.frs (by rfl)) k4.2.2.2.2.2 k4.2.2.2.1 b10).trans (gives_ok (ex := []) hpre (by omega) trivial k4.2.2.2.1 (by rw [b11]) (by have := hpre.2.2.2.1; show 0 + wy.length ≤ 389; omega) hfm)), ?_⟩)⟩⟩
            refine cR.leave (fm := fm2) (nv := nv) ?_ hf.1
            exact k4.push (by omega) (cpsh_fr JC s9 _ _ (Nat.le_refl _)) rfl rfl (by rw [cpsh_n, if_pos rfl]) (by rw [cpsh_t, if_pos rfl]) ⟨rfl, rfl⟩ trivial
          · obtain ⟨fm2, rfl, hfm⟩ := k1.cons
            refine ⟨_, rfl, fun _ => hQ _ _ _ (Or.inl ⟨rfl, v, sh4, ct4, out4, k2, k4.trans (gives_ok hpre (by omega) k5.hi.2.2.2 k5.2.2.2.1 k3 k3b hfm), k5.leave hf.1⟩), fun z => absurd z (by decide)⟩
          · exact hQ _ _ _ (Or.inr ⟨rfl, k.ret⟩))
      exact vX3_call_74 ⟨fun _ => ⟨ho, p1, by rw [hF.vlE b1]; exact e1, o1, hw1⟩, fun c => absurd (by decide) c⟩
    | succ k ih =>
      intro hk s1 hR1 ht hv
      have htk : args.take (k + 1) = args.take k ++ [args.getD k (zI 0)] := take_succ_getD args (zI 0) k (by omega)
      rw [htk, ← List.append_assoc] at hR1
      have hlk : (C ++ args.take k).length = C.length + k := by rw [List.length_append, List.length_take]; omega
      obtain ⟨q1, q2, q3, q4⟩ := hR1.hi
      have hR2 := hR1.var (m := 14 * fr.length + k) (n1 := s1.2.2.1 24 (C.length + k)) (x1 := s1.2.2.2 25 (C.length + k)) (by omega)
      rw [hlk] at q1 q2 q3 hR2
      have e1 : nI (k + 1) - 1 = nI k := nI_pred k
      rw [e1]
      refine vX3_call_74 ⟨fun c => absurd c (i32_nn k (by omega)), fun _ => ?_⟩
      rw [q2, nI_pred, nI_add, nI_clamp (n := C.length + k) (by omega), nI_clamp (n := 14 * fr.length + k) (by omega)]
      refine ⟨inB_n (by omega), inB_n (by omega), inB_n (by omega), _, rfl, q3.isR, inB_n (by omega), q3.isT, ?_⟩
      have em : nI k + (-1) = nI k - 1 := by rw [Int32.sub_eq_add_neg]
      rw [em]
      refine ih (by omega) _ hR2 (fun i hi => ?_) (fun i hi hi2 => ?_)
      · have : (uT (uA (uI s1 26 (nI (C.length + k))) 27 (14 * fr.length + k) (s1.2.2.1 24 (C.length + k))) 28 (14 * fr.length + k) (s1.2.2.2 25 (C.length + k))).2.2.1 29 (14 * fr.length + i) = s1.2.2.1 29 (14 * fr.length + i) := by
          show (if 29 = 27 ∧ 14 * fr.length + i = 14 * fr.length + k then s1.2.2.1 24 (C.length + k) else s1.2.2.1 29 (14 * fr.length + i)) = _
          rw [if_neg (fun c => absurd c.1 (by decide))]
        rw [this]; exact ht i hi
      · have h27 : (uT (uA (uI s1 26 (nI (C.length + k))) 27 (14 * fr.length + k) (s1.2.2.1 24 (C.length + k))) 28 (14 * fr.length + k) (s1.2.2.2 25 (C.length + k))).2.2.1 27 (14 * fr.length + i) = if 27 = 27 ∧ 14 * fr.length + i = 14 * fr.length + k then s1.2.2.1 24 (C.length + k) else s1.2.2.1 27 (14 * fr.length + i) := rfl
        have h28 : (uT (uA (uI s1 26 (nI (C.length + k))) 27 (14 * fr.length + k) (s1.2.2.1 24 (C.length + k))) 28 (14 * fr.length + k) (s1.2.2.2 25 (C.length + k))).2.2.2 28 (14 * fr.length + i) = if 28 = 28 ∧ 14 * fr.length + i = 14 * fr.length + k then s1.2.2.2 25 (C.length + k) else s1.2.2.2 28 (14 * fr.length + i) := rfl
        rw [h27, h28]
        by_cases c : i = k
        · rw [if_pos ⟨rfl, by omega⟩, if_pos ⟨rfl, by omega⟩, c]
          exact q3
        · rw [if_neg (fun z => by omega), if_neg (fun z => by omega)]
          exact hv i (by omega) hi2
  have e36 : s.1 36 = nI fr.length := hR.2.2.1
  refine eX3_call hst ⟨fun c y1 ey1 => ?_, fun c => ?_⟩
  · rw [e36, show (14 : Int32) = nI 14 from rfl, pk_mul] at ey1
    subst ey1
    refine dn (P := fun k => ∀ s1 : CS, cR E f0 s0 fuel Bb (C ++ args) fr N sh ct out s1 f → (∀ i, i < k → s1.2.2.1 29 (14 * fr.length + i) = if i < np then 1 else 0) → ExC l E w (d + 1) MX3_call 28 [some (.ref (w.1 3)), some (.ref (F j)), none, some (.int (nI (14 * fr.length))), some (.int (nI k))] [] s1 f Q) nv ?_ (fun k hk ih => ?_) s hR (fun i hi => absurd hi (Nat.not_lt_zero i))
    · intro s1 hR1 ht
      refine vX3_call_28 ⟨ho, nI nv, h156, pk_le nv nv (fun _ => ⟨ho, nI np, h155, fun y6 ey6 => ?_⟩) (fun c => by omega) rfl rfl⟩
      rw [ey6]
      exact down np (Nat.le_refl _) s1 (by rw [List.take_of_length_le (by omega)]; exact hR1) ht (fun i hi hi2 => by omega)
    · intro s1 hR1 ht
      have nxt : ∀ c : Int32, c = (if k < np then 1 else 0) → ExC l E w (d + 1) MX3_call 28 [some (.ref (w.1 3)), some (.ref (F j)), none, some (.int (nI (14 * fr.length))), some (.int (nI k + 1))] [] (uA s1 29 (nI (14 * fr.length) + nI k).toNatClampNeg c) f Q := by
        intro c hc
        rw [nI_add, nI_clamp (n := 14 * fr.length + k) (by omega), nI_1]
        refine ih _ (hR1.there (by omega)) (fun i hi => ?_)
        have h29 : (uA s1 29 (14 * fr.length + k) c).2.2.1 29 (14 * fr.length + i) = if 29 = 29 ∧ 14 * fr.length + i = 14 * fr.length + k then c else s1.2.2.1 29 (14 * fr.length + i) := rfl
        rw [h29]
        by_cases e : i = k
        · rw [if_pos ⟨rfl, by omega⟩, hc, e]
        · rw [if_neg (fun z => by omega)]; exact ht i (by omega)
      have hin : inB (nI (14 * fr.length) + nI k) 140 := by rw [nI_add]; exact inB_n (by omega)
      exact vX3_call_28 ⟨ho, nI nv, h156, pk_le nv k (fun c => by omega) (fun _ => ⟨ho, nI np, h155, pk_le np k (fun c => ⟨hin, nxt 0 (by rw [if_neg (by omega)])⟩) (fun c => ⟨hin, nxt 1 (by rw [if_pos c])⟩) rfl rfl⟩) rfl rfl⟩
  · rw [e36, show (10 : Int32) = nI 10 from rfl, nI_eq (by omega) (by omega)] at c
    omega
end CDb
