/-! THE READER'S FUNCTIONS: function() -/
section FD
variable {l : Launch} {E : EN} {w : CO} {wm : MO} {dt d : Nat} {ch : Nat → Nat} {n hf p x0 fa L K0 c ca cap nw na : Nat} {vs vs' : List Nat} {O : Nat → Od} {A : List (Nat × Nat × Nat)} {B : List Tok} {C : List CE} {s s1 s2 : CS} {f f1 f2 g : RH} {Q : KO → CS → RH → Prop} {Fn : List FE} {DL EL : Nat → Nat}
theorem fnm_lt (h : ∀ k, k < Fn.length → (Fn.getD k (0, 0, 0, 0, 0)).1 < 27 ^ 8) : ∀ u ∈ fnm Fn, u < 27 ^ 8 := by
  intro u hu
  obtain ⟨k, hk, e⟩ := mem_getD.mp hu
  rw [fnm_getD] at e
  rw [← e]
  exact h k (by unfold fnm at hk; rw [List.length_map] at hk; exact hk)
set_option maxHeartbeats 4000000 in
/-- a function's block, and its end -/
theorem R_fnB (hst : l.stackTraces = false) (h : rdS E w ch n hf x0 fa L K0 p ca cap c O A C Fn DL EL s f) {t t1 t2 : Tok} (et : tk ch n p = t) (et1 : tk ch n t.2.2.2 = t1) (et2 : tk ch n t1.2.2.2 = t2) (z0 : kw t = 0) (zk : t.1 = 1) (z1 : t1.1 = 1) (z2 : kw t1 = 41) (z3 : Fn.length < 12) (z4 : ¬ dupN (fnm Fn) t1.2.2.1) (z5 : t2.1 = 3) (z6 : t2.2.2.1 = 40) (hd : 250 ≤ d)
    {p2 : Nat} (hp2 : p + 4 ≤ p2) (hs2 : cfP s s2 ∧ cSc ch n p2 0 s2) (hnw : nw = f.1) (hna : na = f.1 + 1) (hg : gZ [x0, fa] f g) (hg1 : g.1 = f.1 + 2) (hg2 : g.2.1 = f.2.1 + 22) (hr : rdR w g x0 nw na ca cap vs' A) (h155 : vl g nw 155 = .int (nI vs'.length)) (h153 : vl g nw 153 = .long (lN (cv t1.2.2.1))) (h154 : vl g nw 154 = .int (nI t1.2.1)) (hx148 : vl g x0 148 = .ref fa) (hx149 : vl g x0 149 = .int (nI (Fn.length + 1))) (hfa : ∀ k, ¬ k = Fn.length → vl g fa k = vl f fa k) (hfn : vl g fa Fn.length = .ref nw)
    (hP : ∀ F G, G p2 vs' → PR l E wm (dt + 1) ch n hf 0 O c (C.map toB) (bI (decide (¬ ((tk ch n t2.2.2.2).1 = 3 ∧ (tk ch n t2.2.2.2).2.2.1 = 41)))) t2.2.2.2 [] F G)
    (hok : ∀ s' f', rdOk l E w wm dt ch n hf x0 fa L K0 p vs c O C Fn s s' f' → Q (.inl none) s' f') (hbad : ∀ s' f', rdBad l E wm dt ch n hf K0 p vs c O C Fn s s' f' → Q (.inr 1) s' f') : FK l E w d x0 s2 g Q := by
  obtain ⟨⟨a1, a2, a3⟩, ⟨r1, r4⟩, ⟨b1, b2, b3, ⟨b4, b5, b6⟩, b7, b8, b9, b10⟩, hE, hL, ⟨n1, n2, n3⟩, n4, n5⟩ := id h
  have hAC : A.length = C.length := by have := hL.2.1.length_eq; rw [List.length_map] at this; exact this
  have hFb := fnm_lt (Fn := Fn) (fun k hk => (hE k hk).2.2.2.2.1)
  have hFb' : ∀ u ∈ fnm Fn, u < 2 ^ 50 := fun u hu => Nat.lt_of_lt_of_le (hFb u hu) (by decide)
  have w4 : t1.2.2.1 < 27 ^ 8 := by
    have := (tk_word (ch := ch) (n := n) (k := t.2.2.2) (by rw [et1]; exact z1)).2.2.2
    rw [et1] at this; exact this
  have hkc : cKc E g := a2.geZ hg (fun a ha => by
    simp only [List.mem_cons, List.not_mem_nil, or_false] at ha
    rcases ha with rfl | rfl
    · exact r1.2.2.2
    · exact b7) a3
  have hp2n : p2 ≤ n := hs2.2.2.1.2.1
  have hBl : (C.map toB).length = C.length := List.length_map ..
  have ti : tIn w ch n x0 nw na E K0 p2 0 ca cap c vs' A (C.map toB) s2 g := by
    refine ⟨⟨hs2.2, hkc, hr, by rw [hg.2.1, hg1]; omega, ⟨n1, ?_, by rw [hBl]; omega, by omega⟩, fun x hx => absurd hx List.not_mem_nil, by omega, n5⟩, by omega, by omega⟩
    rw [List.length_nil]; omega
  have hc : c < 3800 := ti.num.2.2.1
  have go := fun (s00 : MS) (Q : Option Value → MS → Prop) (z : GQ0 l E wm dt ch n hf c O (C.map toB) Fn t1 s00 Q p2 vs') => Fn_go (vs := vs) (wm := wm) (dt := dt) (s00 := s00) (Q := Q) hst (by omega) hFb' et et1 et2 z0 zk z1 z2 z3 z4 z5 z6 (hP _ _ z)
  have hnwx : ¬ nw = x0 := by have := r1.2.2.1; omega
  have hnwf : ¬ nw = fa := by omega
  refine ⟨hr.1.1, nw, hr.2.1.1, hr.1.1, all_bk (wm := wm) (dt := dt) (hf := hf) (K0 := K0) (x0 := x0) (nw := nw) (na := na) hst p2 0 ca cap c vs' O A (C.map toB) s2 g d _ ti (by omega) (fun v s' f' k => ⟨v, rfl, ?_⟩) (fun k pl s' f' kF kb kk kB => hbad s' f' ⟨k, pl, ⟨hs2.1.trans kF.1, kF.2⟩, kb, kk, fun s00 Q hQ => ?_⟩)⟩
  · obtain ⟨⟨y1, y2, -⟩, p3, vs3, O3, c3, dC, dA, ca3, cap3, ⟨y3, y4⟩, ⟨k1, k2⟩, ⟨k3, k4, k5⟩, k6, ⟨k7, ⟨k8, k8', k8''⟩, k9⟩, k10, ⟨k11, k12, k13, k14, k15, k16, k17, k18⟩⟩ := k
    have hl3 := k3.1
    have onw : oc f' nw 12 := k4.2.1.2.1
    refine ⟨onw, k4.2.1.2.2.2.1, fun f4 e4 => ?_⟩
    have z4' : f4.1 = f'.1 ∧ f4.2.1 = f'.2.1 := by rw [e4]; exact ⟨rfl, rfl⟩
    have G4 : gE [nw] f' f4 := by rw [e4]; exact gE.set _ _ _
    have hca : ∀ a, a = ca → tg g a = some (.inr 8) := fun a e => by rw [e]; exact hr.2.2.2.2.1
    have cc0 : f4.2.2.1 x0 = f'.2.2.1 x0 := by rw [e4]; exact set_cell (fun z => hnwx z.symm)
    have xg := ((k3.2.2.2 x0 hr.1.2.2.1).2.2).1 hr.1.1.1
    have ng := ((k3.2.2.2 nw hr.2.1.2.2.1).2.2).2 hr.2.1.2.1.1
    have hfag : fa < g.1 := by omega
    have tgfa : tg g fa = some (.inr 7) := ((hg.2.2.2 fa (by omega)).1).trans b2
    have cfa : f4.2.2.1 fa = g.2.2.1 fa := by
      rw [e4]; refine (set_cell (fun z => hnwf z.symm)).trans (k3.ce hfag (fun z => ?_))
      simp only [List.mem_cons, List.not_mem_nil, or_false] at z
      rcases z with z | z | z | z
      · rw [z, hr.1.1.1] at tgfa; cases tgfa
      · exact hnwf z.symm
      · rw [z, hr.2.2.1.1] at tgfa; cases tgfa
      · rw [z, hr.2.2.2.2.1] at tgfa; cases tgfa
    have gall : gZ [x0, nw, na, ca] g f4 := k3.z.trans G4.z (fun a ha => Or.inl (by rw [List.mem_singleton.mp ha]; simp))
    have tca : tg f ca = some (.inr 8) := r4.2.1
    have g04 : gZ [x0, fa, ca] f f4 := by
      refine (hg.mono (D' := [x0, fa, ca]) (fun a ha => Or.inl (by simp only [List.mem_cons, List.not_mem_nil, or_false] at ha ⊢; omega))).trans gall (fun a ha => ?_)
      simp only [List.mem_cons, List.not_mem_nil, or_false] at ha ⊢
      rcases ha with rfl | rfl | rfl | rfl
      · exact Or.inl (Or.inl rfl)
      · exact Or.inr (by omega)
      · exact Or.inr (by omega)
      · exact Or.inl (Or.inr (Or.inr rfl))
    have tk3 := (k2.tk).1
    have hBm : C.map toB ++ dC.map toB = (C ++ dC).map toB := (List.map_append ..).symm
    have v4 : vl f4 nw 158 = .ref v ∧ ∀ j, ¬ j = 158 → vl f4 nw j = vl f' nw j := by
      rw [e4]; exact ⟨set_vl onw.1, fun j hj => set_vn onw.1 hj⟩
    have o4 : oc f4 nw 12 := by rw [e4]; exact set_oc onw
    have hlenF : ∀ x : FE, (Fn ++ [x]).length = Fn.length + 1 := fun x => by rw [List.length_append]; rfl
    obtain ⟨O5, eO5⟩ : ∃ O5, O5 = oup (oup O3 (4000 * (1 - hf) + c3) (2, 0, 0, 0, 0)) (4000 * (1 - hf) + (c3 + 1)) (20, 0, 0, 0, 0) := ⟨_, rfl⟩
    have hO5 : ∀ i, i < 4000 * (1 - hf) + c3 → O5 i = O3 i := fun i hi => by rw [eO5, oup_ne _ _ (by omega), oup_ne _ _ (by omega)]
    obtain ⟨x5, ex5⟩ : ∃ x5 : FE, x5 = (t1.2.2.1, t1.2.1, vs'.length, 4000 * (1 - hf) + c, vs3.length + 1) := ⟨_, rfl⟩
    have hnd5 : (fnm (Fn ++ [x5])).Nodup := by
      show ((Fn ++ [x5]).map (fun x => x.1)).Nodup
      rw [List.map_append, List.nodup_append]
      refine ⟨b10, List.nodup_cons.mpr ⟨List.not_mem_nil, List.nodup_nil⟩, fun a ha b hb e => z4 (Or.inr ?_)⟩
      have e2 : b = x5.1 := List.mem_singleton.mp hb
      rw [ex5] at e2
      have e3 : a = t1.2.2.1 := e.trans e2
      rw [← e3]; exact ha
    have hk10 : cLk f4 L 0 (tk ch n p3).2.2.2 (C ++ dC) (A ++ dA) := by
      have q1 : cLk g L 0 p C A := hL.wideZ hg (fun a ha => by
        simp only [List.mem_cons, List.not_mem_nil, or_false] at ha
        rcases ha with rfl | rfl
        · exact Or.inl b5
        · exact Or.inl b4) (Nat.le_refl _) (Nat.le_refl _) (Nat.le_refl _)
      have q2 := q1.app k10 k3 (fun a ha => ?_) (by omega) (by omega) (by omega) (by omega)
      · exact q2.wide G4 (fun a ha => Or.inr (Or.inr (by rw [List.mem_singleton.mp ha, onw.1]; exact fun z => (by cases z)))) (Nat.le_refl _) (Nat.le_refl _) (Nat.le_refl _)
      · refine Or.inr (Or.inr (fun z => ?_))
        simp only [List.mem_cons, List.not_mem_nil, or_false] at ha
        rcases ha with rfl | rfl | rfl | rfl
        · rw [hr.1.1.1] at z; cases z
        · rw [hr.2.1.2.1.1] at z; cases z
        · rw [hr.2.2.1.1] at z; cases z
        · rw [hr.2.2.2.2.1] at z; cases z
    refine hok s' f4 ⟨(tk ch n p3).2.2.2, vs3, O5, c3 + 1 + 1, ca3, cap3, A ++ dA, C ++ dC, Fn ++ [x5], up DL Fn.length nw, up EL Fn.length (4000 * (1 - hf) + c3), ⟨⟨k2, ?_, ?_⟩, ⟨⟨ocE cc0 k4.1.1, by rw [(cellE cc0).2.2]; exact k4.1.2.1, by rw [z4'.1]; exact k4.1.2.2.1, by rw [G4.2.1]; exact k4.1.2.2.2⟩, ?_⟩, ⟨by rw [(cellE cc0).2.2, xg.1]; exact hx148, by rw [(cellE cfa).1]; exact tgfa, by rw [(cellE cfa).2.1, (hg.2.2.2 fa (by omega)).2]; exact b3, ⟨b4, b5, by omega⟩, ?_, by rw [(cellE cc0).2.2, xg.2, hlenF]; exact hx149, by rw [hlenF]; omega, hnd5⟩, fun k hk => ?_, hk10, ⟨n1, by omega, by rw [List.length_append]; omega⟩, by omega, n5⟩, ⟨by omega, hs2.1.trans k1⟩, fun s00 => ?_⟩
    · exact a2.geZ g04 (fun a ha => by
        simp only [List.mem_cons, List.not_mem_nil, or_false] at ha
        rcases ha with rfl | rfl | rfl
        · exact r1.2.2.2
        · exact b7
        · exact r4.2.2.2.1) a3
    · rw [g04.2.1]; have := g04.1; omega
    · obtain ⟨m1, m2, m3, m4, m5, m6, m7, m8⟩ := k4.2.2.2
      have cca : f4.2.2.1 ca3 = f'.2.2.1 ca3 := by
        rw [e4]; exact set_cell (fun z => by rw [z, onw.1] at m2; cases m2)
      refine ⟨by rw [(cellE cc0).2.2]; exact m1, by rw [(cellE cca).1]; exact m2, by omega, by rw [G4.2.1]; exact m4, by rw [(cellE cca).2.1]; exact m5, by rw [(cellE cc0).2.2]; exact m6, m7, fun k hk => ?_⟩
      obtain ⟨q1, q2, q3⟩ := m8 k hk
      exact ⟨by rw [(cellE cca).2.2]; exact q1, G4.oc q2 q3, by omega⟩
    · rw [g04.2.1]; exact b7
    · rw [hlenF] at hk
      rw [(cellE cfa).2.2]
      by_cases ek : k = Fn.length
      · subst ek
        rw [up_at, up_at, getD_lastF, ex5]
        refine ⟨hfn, ⟨by omega, by have := k4.2.1.2.2.1; omega⟩, o4, (v4.2 153 (by decide)).trans (ng.1.trans h153), w4, (v4.2 155 (by decide)).trans (ng.2.1.trans h155), (v4.2 154 (by decide)).trans (ng.2.2.trans h154), v, vs3.length, (v4.2 156 (by decide)).trans k4.2.1.2.2.2.2.1, rfl, v4.1, ⟨k18, k4.2.2.1.2.2.2.2.1⟩, ⟨by show 4000 * (1 - hf) + c ≤ _; omega, by omega, Nat.le_add_right _ _⟩, ?_, ?_, ?_⟩
        · refine Kg.keep (D := [nw]) (D2 := []) (D' := [nw]) (O := O3) (C := dC) (nv := vs3.length) ⟨g.1, f'.1, by omega, Nat.le_refl _, fun x hx => Or.inl (by rw [List.mem_singleton.mp hx]; omega), ?_⟩ G4 (fun x hx => Or.inr (Or.inl hx)) (fun x hx => absurd hx List.not_mem_nil) (fun i _ i2 => hO5 i i2) (fun e he => List.mem_append_right _ he) (Nat.le_refl _)
          exact k9.wide (Nat.le_refl _) (Nat.le_refl _) (Nat.le_refl _) (Nat.le_refl _) (fun f P F M nv q => q.mono (by omega) (by omega) (by unfold hN; omega))
        · rw [eO5, oup_ne _ _ (by omega)]; exact oup_at _ _ _
        · rw [eO5]; exact oup_at _ _ _
      · rw [up_ne _ _ ek, up_ne _ _ ek, getD_appF _ _ (by omega), hfa k ek]
        obtain ⟨q1, q2⟩ := hE k (by omega)
        exact ⟨q1, q2.keep g04 (fun x hx => by
          simp only [List.mem_cons, List.not_mem_nil, or_false] at hx
          rcases hx with rfl | rfl | rfl
          · exact Or.inl b5
          · exact Or.inl b4
          · exact Or.inr (Or.inr tca)) (fun i hi => by rw [hO5 i (by omega)]; exact k7 i hi) (fun e he => List.mem_append_left _ he) (by omega)⟩
    · intro Q h' s hs
      refine go s00 Q ⟨fun z => absurd ⟨y1, y2⟩ z, fun _ _ s3 hs3 => ?_⟩ s hs
      refine k6 s00 _ [] _ (Nat.le_refl _) Q (fun s4 hs4 => ?_) s3 hs3
      rw [hBm] at hs4
      refine T_clF hst hs4 ⟨y3, y4⟩ (by omega) (by omega) (fun s5 hs5 => h' s5 ?_)
      rw [ex5, eO5]; exact hs5.t0
  · rcases kB with ⟨y, rfl, rfl⟩ | ⟨-, y, -⟩ | ⟨⟨y1, y2⟩, -, y | ⟨p3, vs3, O3, c3, B3, m1, m2, m3, rfl, rfl, m4, m5, m6⟩⟩
    · have hwk : wk (tk ch n p2) = 2 := if_neg hs2.2.2.1.2.2
      exact go s00 Q ⟨fun _ => by rw [hwk]; exact hQ, fun a b => absurd ⟨a, b⟩ y⟩
    · omega
    · exact go s00 Q ⟨fun z => absurd ⟨y1, y2⟩ z, fun _ _ s3 hs3 => y s00 _ [] _ (Nat.le_refl _) Q hQ s3 hs3⟩
    · refine go s00 Q ⟨fun z => absurd ⟨y1, y2⟩ z, fun _ _ s3 hs3 => m1 s00 _ [] _ (Nat.le_refl _) Q (fun s4 hs4 => T_clF hst hs4 m2 (by omega) (by omega) (fun s5 hs5 => ?_)) s3 hs3⟩
      have hwk : wk (tk ch n (tk ch n p3).2.2.2) = 1 := if_pos m3
      have hkw : ¬ kw (tk ch n (tk ch n p3).2.2.2) = 0 := fun z => by
        have : kw (tk ch n (tk ch n p3).2.2.2) = 41 := if_neg (by omega)
        omega
      refine T_fn hst hs5.t0 (by omega) (by omega) (by omega) (fun u hu => ?_) rfl rfl rfl (fun _ => by rw [hwk]; exact hQ) (fun z => absurd z hkw) (fun z => absurd z hkw) (fun z => absurd z hkw) (fun z => absurd z hkw) (fun z => absurd z hkw)
      unfold fnm at hu
      rw [List.map_append] at hu
      rcases List.mem_append.mp hu with hu | hu
      · exact hFb' u hu
      · rw [List.mem_singleton.mp hu]; exact Nat.lt_of_lt_of_le w4 (by decide)
end FD
