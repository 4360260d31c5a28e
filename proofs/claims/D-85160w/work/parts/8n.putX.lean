/-! THE COMPONENT'S TREES: N [E] = E, N [E] [E] = E -/
section CD9
variable {l : Launch} {E : EN} {w : CO} {d : Nat} {s s' s0 : CS} {f f' f0 : RH} {Q : KO → CS → RH → Prop} {fuel : Nat} {Bb : Nat × Nat} {P : Pg} {F : Nat → Nat} {C pl A : List Th} {fr fr' : List Fm} {N : List Nat} {wy : List Wy} {sh sh' : Nat → Option Th} {ct ct' : Ct} {out out' : List Int32} {a b t j e n h h' u u' L p g M nv x y x1 x2 b1 : Nat} {z z1 z2 z3 place on np fp : Int32}
theorem trzR {k : Nat} {kk : Int32} (h : cR E f0 s0 fuel Bb (C ++ A) fr N sh ct out s f) (hl : C.length + 1 ≤ 8380) (hkk : kk = nI k) (hF : Frz f f') (hcb : ez E ≤ f'.2.2.2 ∧ f'.2.2.2 ≤ f'.1) (hb : f'.2.1 ≤ f.2.1 + 800) : cT E f0 s0 fuel Bb C fr N sh ct out (k, place, 0) (cwrong s kk place) (frz f') := by
  have hc := cop.tr (E := E) (n := C.length) (md := ct.2.1) (r := .inl k) (place := place) rfl hkk h.ok.1.2.2.1 hb
  rcases h.cop hl (hF.trans (Frz.freeze hcb.2)) ⟨Nat.le_trans hcb.1 hcb.2, Nat.le_refl _⟩ hc with ⟨v, e, _⟩ | ⟨v, e, _⟩ | ⟨k', e, _, q⟩
  · cases e
  · cases e
  · cases e; exact q
/-- the new thing is given, and put -/
theorem C_chg (hst : l.stackTraces = false) {q parts c : Nat} {v : Th} (hR : cR E f0 s0 fuel Bb (C ++ A) fr N sh ct out s f) (hA : A.length = parts) (hl : C.length + 1 ≤ 8380) (hN : N.head? = some nv) (hn : n < 8 + nv) (hb1 : b1 < f0.2.2.2) (ho : oc f0 b1 28) (h196 : vl f0 b1 196 = .int (nI n)) (hF : Frz f f') (hcb : ez E ≤ f'.2.2.2 ∧ f'.2.2.2 ≤ f'.1) (hg : f'.2.1 ≤ f.2.1 + c) (hv : rcT f'.2.2.1 (ez E) f'.1 true v (fun _ => .ref q)) (hk : ¬ zk v = 0) (hZ : ZW v) (hc : c ≤ 2 * zm v)
    (hgt : 3000 < ct.2.1 + zm v → ∀ s' f', cT E f0 s0 fuel Bb C fr N sh (ct.1, ct.2.1 + zm v, ct.2.2) out (11, fp, 0) s' f' → Q (.inr 9) s' f')
    (hok : ct.2.1 + zm v ≤ 3000 → ∀ s' f', cR E f0 s0 fuel Bb C (aputF fr n v) N (aputS sh n v) (ct.1, ct.2.1 + zm v, ct.2.2) out s' f' → Q (.inl none) s' f') :
    EvC l E w (d + 3) MX3_give_2 [.ref (w.1 3), .ref q, .int (nI parts), .int fp] s f' (fun o s55 f56 => KP o (fun r => r = none ∧ (oc f56 b1 28 ∧ (∃ v57 : Int32, vl f56 b1 196 = .int v57 ∧ (EvC l E w (d + 3) MX3_put [.ref (w.1 3), .int v57] s55 f56 (fun o s58 f59 => KP o (fun r => r = none ∧ Q (.inl none) s58 (frz f59)) (fun k => Q (.inr k) s58 (frz f59))))))) (fun k => Q (.inr k) s55 (frz f56))) := by
  have hO := hR.ok
  rw [COk, hA] at hO
  have hFz : Frz f (frz f') := hF.trans (Frz.freeze hcb.2)
  have hF0 : Frz f0 f' := hR.frz.trans hF
  refine C_finG hst (n := C.length) (parts := parts) (md := ct.2.1) (place := fp) (t := v) (s0 := s) (f0 := f) (r := .inr v) rfl (cfr.rf JC _ s) hg hv hk hZ hO.1.1 hO.1.2.1 hO.1.2.2.1 hO.1.2.2.2 hc ?_
  intro o s1 ho1 hcop
  rcases hR.cop hl hFz ⟨Nat.le_trans hcb.1 hcb.2, Nat.le_refl _⟩ hcop with ⟨v', e, c1, rfl, q1⟩ | ⟨v', e, c1, rfl, q1⟩ | ⟨k', e, _⟩
  · cases e
    refine ⟨rfl, hF0.ocE hb1 ho, nI n, by rw [hF0.vlE hb1]; exact h196, ?_⟩
    refine EvC.frozen hcb.2 (C_put hst q1 hN hn (fun s2 hR2 _ => ⟨rfl, hok ?_ s2 _ hR2⟩))
    exact Nat.not_lt.mp (fun z => c1 ⟨z, hk⟩)
  · cases e
    exact hgt c1.1 s1 _ q1
  · cases e
/-- N [E] = E -/
theorem C_change1 (hst : l.stackTraces = false) {i v : Th} (h : cR E f0 s0 fuel Bb (C ++ [i, v]) fr N sh ct out s f) (hl : C.length + 3 ≤ 8380) (hN : N.head? = some nv) (hn : n < 8 + nv) (hb1 : b1 < f0.2.2.2) (ho : oc f0 b1 28) (h196 : vl f0 b1 196 = .int (nI n)) (h197 : vl f0 b1 197 = .int np) (h198 : vl f0 b1 198 = .int fp) (h201 : vl f0 b1 201 = .null)
    (h7 : aget fr sh n = none → ∀ s' f', cT E f0 s0 fuel Bb C fr N sh ct out (7, np, 0) s' f' → Q (.inr 9) s' f')
    (htr : ∀ x k q, aget fr sh n = some x → zput1 x i v = .inl (k, q) → ∀ s' f', cT E f0 s0 fuel Bb C fr N sh ct out (k, fp, 0) s' f' → Q (.inr 9) s' f')
    (hgt : ∀ x t, aget fr sh n = some x → zput1 x i v = .inr t → 3000 < ct.2.1 + zm t → ∀ s' f', cT E f0 s0 fuel Bb C fr N sh (ct.1, ct.2.1 + zm t, ct.2.2) out (11, fp, 0) s' f' → Q (.inr 9) s' f')
    (hok : ∀ x t, aget fr sh n = some x → zput1 x i v = .inr t → ct.2.1 + zm t ≤ 3000 → ∀ s' f', cR E f0 s0 fuel Bb C (aputF fr n t) N (aputS sh n t) (ct.1, ct.2.1 + zm t, ct.2.2) out s' f' → Q (.inl none) s' f') : EvC l E w (d + 6) MX3_change [.ref (w.1 3), .ref b1] s f Q := by
  have hF := h.frz
  have hO := h.ok
  obtain ⟨⟨h26, h83, h40, hmd⟩, ⟨hroom, hz, hcb⟩, -, -⟩ := id hO
  have h26 : s.1 26 = nI (C.length + 2) := h26
  have ho1 := hF.ocE hb1 ho
  have hlen : (C ++ [i, v]).length = C.length + 2 := by rw [List.length_append]; rfl
  refine EvC.pfrz (eX3_change hst ⟨ho1, .null, by rw [hF.vlE hb1]; exact h201, rfl, fun _ y3 ey3 => ⟨ho1, nI n, by rw [hF.vlE hb1]; exact h196, ho1, np, by rw [hF.vlE hb1]; exact h197, ?_⟩, fun a e => by cases e⟩)
  rw [h26, nI_s2] at ey3
  subst ey3
  refine C_value hst h (by rw [hlen]; omega) hN hn (fun c => h7 c _ _ (trzR h (by omega) rfl (Frz.rf f) ⟨hz, hcb⟩ (Nat.le_add_right _ _))) (fun x hx s1 hR1 => ⟨rfl, ?_⟩)
  obtain ⟨hl8, e26, hxv, wx⟩ := hR1.hi
  have hR2 := hR1.drop
  rw [hlen] at hl8 e26 hxv hR2
  rw [e26, nI_pred, nI_clamp (n := C.length + 2) (by omega)]
  refine ⟨inB_n (by omega), _, rfl, hxv.isR, ho1, fp, by rw [hF.vlE hb1]; exact h198, ?_⟩
  generalize s1.2.2.2 25 (C.length + 2) = cv at hxv
  generalize hs2 : uI s1 26 (nI (C.length + 2)) = s2 at hR2
  obtain ⟨hi, hv, wi, wv, -, -⟩ := hR2.ok.v2
  have h26' : s2.1 26 = nI (C.length + 2) := hR2.ok.1.1
  -- the end of it
  have h181 : ∀ g : Bool, (g = true ↔ ((zk x = 1 ∧ zk v = 0) ∨ (zk x = 2 ∧ zk v = 1) ∨ zk x = 3)) → ExC l E w (d + 6) MX3_change 181 [some (.ref (w.1 3)), some (.ref b1), some (.int 2), some (.int (nI C.length)), some cv, some (.int fp), some (.int (bI (zk i == 0))), none, none, none] [.int (bI g)] s2 f (fun o s' f' => Q o s' (frz f')) := by
    intro g hg
    have bad : (zk x = 0 ∨ zk i ≠ 0 ∨ (zk x = 1 ∧ zk v ≠ 0) ∨ (zk x = 2 ∧ zk v ≠ 1)) → EvC l E w (d + 5) MX3_wrong [.ref (w.1 3), .int 3, .int fp] s2 f (fun o s50 f51 => KP o (fun r => r = some (.ref (w.1 9)) ∧ Q (.inr 9) s50 (frz f51)) (fun k => Q (.inr k) s50 (frz f51))) := by
      intro hb
      exact C_wrong hst (Q := fun o s' f' => Q o s' (frz f')) (htr x 3 0 hx (zput1_bad hb) _ _ (trzR hR2 (by omega) rfl (Frz.rf f) ⟨hz, hcb⟩ (Nat.le_add_right _ _))) (fun _ _ _ => rfl)
    refine vX3_change_181 hxv.isR ⟨fun e0 => bad (Or.inr (Or.inl (fun c => ?_))), fun e1 => ⟨fun g1 => ⟨inB_n (by omega), fun _ => ?_, fun c => absurd c (by decide)⟩, fun g0 => bad ?_⟩⟩
    · rw [c] at e0; exact absurd e0 (by decide)
    · have zi : zk i = 0 := by
        by_cases c : zk i = 0
        · exact c
        · exact absurd (by show bI (zk i == 0) = 0; rw [beq_eq_false_iff_ne.mpr c]; rfl) e1
      have hgood : (zk x = 1 ∧ zk v = 0) ∨ (zk x = 2 ∧ zk v = 1) ∨ zk x = 3 := hg.mp (by
        cases g
        · exact absurd rfl g1
        · rfl)
      have hk0 : ¬ zk x = 0 := by omega
      have hnb : ¬ (zk x = 0 ∨ zk i ≠ 0 ∨ (zk x = 1 ∧ zk v ≠ 0) ∨ (zk x = 2 ∧ zk v ≠ 1)) := by omega
      have hin : s2.2.2.1 24 C.length = zv i := by
        rcases hi.cls with ⟨_, _, c⟩ | ⟨_, _, _, c, _⟩
        · exact c
        · exact absurd zi c
      obtain ⟨p, ep, -, -, -, hpx⟩ : ∃ p : Nat, cv = .ref p ∧ p < f.2.2.2 ∧ ¬ zk x = 0 ∧ oc f p (28 + zk x) ∧ RT E f cv x := by
        rcases hxv.cls with ⟨c, _⟩ | c
        · exact absurd c hk0
        · exact c
      rw [ep] at hpx
      rw [h26', show nI (C.length + 2) - 1 = nI (C.length + 1) from nI_pred (C.length + 1), nI_clamp (n := C.length) (by omega), hin, ep]
      have hb1f : b1 < f.2.2.2 := Nat.lt_of_lt_of_le hb1 hF.2.2.1
      refine EvC.fz (C_changed1 hst hpx wx hk0 (by omega) hv wv (fun c => by omega) (fun c => by omega) hb1f ho1 (by rw [hF.vlE hb1]; exact h201) (by rw [hF.vlE hb1]; exact h198) (by omega) hz hcb (fun c f1 g hFz hcbz => ?_) (fun c e f1 g hFz hcbz => ?_) (fun c v' e hk' cc q f1 hq hcc g hFz hcbz => ?_))
      · exact Or.inl ⟨rfl, fun _ => C_wrong hst (Q := fun o s' f' => Q o s' (frz f')) (htr x 5 0 hx (zput1_no hnb (zix_n c)) _ _ (trzR hR2 (by omega) rfl hFz hcbz (by have := g.2.2.1; omega))) (fun _ _ _ => rfl)⟩
      · have hz1 := (zpu1_ok hnb (zix_y c)).trans e
        obtain ⟨k, q, e2⟩ : ∃ k q, zput1 x i v = .inl (k, q) ∧ k = 2 := by
          unfold zpu1 at hz1
          split at hz1
          · next k q e2 => cases hz1; exact ⟨_, _, e2, rfl⟩
          · cases hz1
        obtain ⟨e2, rfl⟩ := e2
        exact Or.inr ⟨rfl, htr x 2 q hx e2 _ _ (trzR hR2 (by omega) rfl hFz hcbz (by have := g.2.2.1; omega))⟩
      · have hz1 := (zpu1_ok hnb (zix_y c)).trans e
        have e2 : zput1 x i v = .inr v' := by
          unfold zpu1 at hz1
          split at hz1
          · cases hz1
          · next t e2 => cases hz1; exact e2
        exact ⟨q, rfl, C_chg hst hR2 rfl (by omega) hN hn hb1 ho h196 hFz hcbz g.2.2.1 hq hk' (zw_pu1 wx wv hz1).1 hcc (fun c s' f' => hgt x v' hx e2 c s' f') (fun c s' f' => hok x v' hx e2 c s' f')⟩
    · have hng : ¬ ((zk x = 1 ∧ zk v = 0) ∨ (zk x = 2 ∧ zk v = 1) ∨ zk x = 3) := fun z => by
        rw [hg.mpr z] at g0; exact absurd g0 (by decide)
      rcases zk_c x with e | e | e | e <;> omega
  have h89 : ExC l E w (d + 6) MX3_change 89 [some (.ref (w.1 3)), some (.ref b1), some (.int 2), some (.int (nI C.length)), some cv, some (.int fp), none, none, none, none] [.int (bI (zk i == 0))] s2 f (fun o s' f' => Q o s' (frz f')) := by
    refine vX3_change_89 hxv.isR ⟨fun _ => ⟨hxv.isT, ?_⟩, fun c => absurd c (by decide)⟩
    rcases hxv.cls with ⟨c0, c1, _⟩ | ⟨p, c1, c2, c3, c4, hpx⟩
    · have no : ∀ k : Nat, ∀ z : Nat, cv = .ref z → ¬ tg f z = some (.inl k) := fun k z e => by rw [c1] at e; cases e
      exact is_n (no 29) ⟨hxv.isT, is_n (no 30) ⟨hxv.isT, is_n (no 31) (h181 false ⟨fun c => absurd c (by decide), fun c => by omega⟩)⟩⟩
    · have no : ∀ k, k ≠ 28 + zk x → ∀ z : Nat, cv = .ref z → ¬ tg f z = some (.inl k) := fun k hk z e e2 => by
        rw [c1] at e; cases e
        rw [c4.1] at e2
        cases e2
        exact hk rfl
      have no2 : ∀ k, k ≠ 28 + zk x → ¬ tg f p = some (.inl k) := fun k hk => no k hk p c1
      rcases zk_c x with e | e | e | e
      · exact absurd e c3
      · rw [e] at c4
        refine is_y (X := True) c1 c4.1 ?_
        rw [h26', show nI (C.length + 2) - 1 = nI (C.length + 1) from nI_pred (C.length + 1)]
        refine C_isInt hst (by omega) hv ⟨_, rfl, fun c => ?_, fun c => ⟨by rw [← c1]; exact hxv.isT, br_f (no2 30 (by omega)) ⟨by rw [← c1]; exact hxv.isT, br_f (no2 31 (by omega)) ?_⟩⟩⟩
        · have zv0 : zk v = 0 := by
            by_cases c' : zk v = 0
            · exact c'
            · exact absurd (by show bI (zk v == 0) = 0; rw [beq_eq_false_iff_ne.mpr c']; rfl) c
          rw [← c1]
          exact h181 true ⟨fun _ => by omega, fun _ => rfl⟩
        · have zv0 : ¬ zk v = 0 := fun c' => by rw [c'] at c; exact absurd c (by decide)
          rw [← c1]
          exact h181 false ⟨fun c => absurd c (by decide), fun c => by omega⟩
      · rw [e] at c4
        refine is_n (no 29 (by omega)) ⟨hxv.isT, is_y (X := True) c1 c4.1 ?_⟩
        rw [h26', show nI (C.length + 2) - 1 = nI (C.length + 1) from nI_pred (C.length + 1), nI_clamp (n := C.length + 1) (by omega)]
        refine ⟨inB_n (by omega), _, rfl, hv.isR, hv.isT, ?_⟩
        have hrow := hv.isRow 1 (by decide) (by decide)
        by_cases c' : zk v = 1
        · obtain ⟨a28, d1, d2⟩ := hrow.1 c'
          rw [← c1]
          exact is_y (X := True) d1 d2 (h181 true ⟨fun _ => by omega, fun _ => rfl⟩)
        · refine is_n (hrow.2 c') ⟨by rw [← c1]; exact hxv.isT, br_f (no2 31 (by omega)) ?_⟩
          rw [← c1]
          exact h181 false ⟨fun c => absurd c (by decide), fun c => by omega⟩
      · rw [e] at c4
        refine is_n (no 29 (by omega)) ⟨hxv.isT, is_n (no 30 (by omega)) ⟨hxv.isT, is_y (X := True) c1 c4.1 ?_⟩⟩
        rw [← c1]
        exact h181 true ⟨fun _ => by omega, fun _ => rfl⟩
  refine C_isInt hst (by omega) hi ⟨_, rfl, fun c => ?_, fun c => ?_⟩
  · rw [c] at h89; exact h89
  · have e1 : bI (zk i == 0) = 1 := by
      generalize (zk i == 0) = bb at c
      cases bb
      · exact absurd rfl c
      · rfl
    rw [e1] at h89; exact h89
theorem COk.v3 {md : Nat} {x y z : Th} (h : COk E n md [x, y, z] s f) : rcV E f (s.2.2.1 24 n) (s.2.2.2 25 n) x ∧ rcV E f (s.2.2.1 24 (n + 1)) (s.2.2.2 25 (n + 1)) y ∧ rcV E f (s.2.2.1 24 (n + 2)) (s.2.2.2 25 (n + 2)) z ∧ ZW x ∧ ZW y ∧ ZW z := ⟨h.2.2.2 0 (Nat.succ_pos _), h.2.2.2 1 (by show 1 < 3; decide), h.2.2.2 2 (by show 2 < 3; decide), h.2.2.1 x List.mem_cons_self, h.2.2.1 y (List.mem_cons_of_mem _ List.mem_cons_self), h.2.2.1 z (List.mem_cons_of_mem _ (List.mem_cons_of_mem _ List.mem_cons_self))⟩
theorem bI_0 {t : Th} (c : bI (zk t == 0) = 0) : ¬ zk t = 0 := fun c' => by rw [c'] at c; exact absurd c (by decide)
theorem bI_1 {t : Th} (c : ¬ bI (zk t == 0) = 0) : zk t = 0 := by
  by_cases c' : zk t = 0
  · exact c'
  · exact absurd (by show bI (zk t == 0) = 0; rw [beq_eq_false_iff_ne.mpr c']; rfl) c
/-- N [E] [E] = E -/
theorem C_change2 (hst : l.stackTraces = false) {q2 : Nat} {sp : Int32} {i k v : Th} (h : cR E f0 s0 fuel Bb (C ++ [i, k, v]) fr N sh ct out s f) (hl : C.length + 4 ≤ 8380) (hN : N.head? = some nv) (hn : n < 8 + nv) (hb1 : b1 < f0.2.2.2) (ho : oc f0 b1 28) (h196 : vl f0 b1 196 = .int (nI n)) (h197 : vl f0 b1 197 = .int np) (h198 : vl f0 b1 198 = .int fp) (h199 : vl f0 b1 199 = .int sp) (h201 : vl f0 b1 201 = .ref q2)
    (h7 : aget fr sh n = none → ∀ s' f', cT E f0 s0 fuel Bb C fr N sh ct out (7, np, 0) s' f' → Q (.inr 9) s' f')
    (htr : ∀ x e q, aget fr sh n = some x → zput2 x i k v = .inl (e, q) → ∀ s' f', cT E f0 s0 fuel Bb C fr N sh ct out (e, (if q = 0 then fp else sp), 0) s' f' → Q (.inr 9) s' f')
    (hgt : ∀ x t, aget fr sh n = some x → zput2 x i k v = .inr t → 3000 < ct.2.1 + zm t → ∀ s' f', cT E f0 s0 fuel Bb C fr N sh (ct.1, ct.2.1 + zm t, ct.2.2) out (11, fp, 0) s' f' → Q (.inr 9) s' f')
    (hok : ∀ x t, aget fr sh n = some x → zput2 x i k v = .inr t → ct.2.1 + zm t ≤ 3000 → ∀ s' f', cR E f0 s0 fuel Bb C (aputF fr n t) N (aputS sh n t) (ct.1, ct.2.1 + zm t, ct.2.2) out s' f' → Q (.inl none) s' f') : EvC l E w (d + 6) MX3_change [.ref (w.1 3), .ref b1] s f Q := by
  have hF := h.frz
  have hO := h.ok
  obtain ⟨⟨h26, h83, h40, hmd⟩, ⟨hroom, hz, hcb⟩, -, -⟩ := id hO
  have h26 : s.1 26 = nI (C.length + 3) := h26
  have ho1 := hF.ocE hb1 ho
  have hlen : (C ++ [i, k, v]).length = C.length + 3 := by rw [List.length_append]; rfl
  refine EvC.pfrz (eX3_change hst ⟨ho1, .ref q2, by rw [hF.vlE hb1]; exact h201, rfl, fun e => (by cases e), fun a e y3 ey3 => ⟨ho1, nI n, by rw [hF.vlE hb1]; exact h196, ho1, np, by rw [hF.vlE hb1]; exact h197, ?_⟩⟩)
  rw [h26, nI_s3] at ey3
  subst ey3
  refine C_value hst h (by rw [hlen]; omega) hN hn (fun c => h7 c _ _ (trzR h (by omega) rfl (Frz.rf f) ⟨hz, hcb⟩ (Nat.le_add_right _ _))) (fun x hx s1 hR1 => ⟨rfl, ?_⟩)
  obtain ⟨hl8, e26, hxv, wx⟩ := hR1.hi
  have hR2 := hR1.drop
  rw [hlen] at hl8 e26 hxv hR2
  rw [e26, nI_pred, nI_clamp (n := C.length + 3) (by omega)]
  refine ⟨inB_n (by omega), _, rfl, hxv.isR, ho1, fp, by rw [hF.vlE hb1]; exact h198, ?_⟩
  generalize s1.2.2.2 25 (C.length + 3) = cv at hxv
  generalize hs2 : uI s1 26 (nI (C.length + 3)) = s2 at hR2
  obtain ⟨hi, hj, hv, wi, wj, wv⟩ := hR2.ok.v3
  have h26' : s2.1 26 = nI (C.length + 3) := hR2.ok.1.1
  have h181 : ∀ b g : Bool, (b = true ↔ (zk i = 0 ∧ zk k = 0)) → (g = true ↔ (zk x = 2 ∧ zk v = 0)) → ExC l E w (d + 6) MX3_change 181 [some (.ref (w.1 3)), some (.ref b1), some (.int 3), some (.int (nI C.length)), some cv, some (.int fp), some (.int (bI b)), none, none, none] [.int (bI g)] s2 f (fun o s' f' => Q o s' (frz f')) := by
    intro b g hb hg
    have bad : (zk x ≠ 2 ∨ zk i ≠ 0 ∨ zk k ≠ 0 ∨ zk v ≠ 0) → EvC l E w (d + 5) MX3_wrong [.ref (w.1 3), .int 3, .int fp] s2 f (fun o s50 f51 => KP o (fun r => r = some (.ref (w.1 9)) ∧ Q (.inr 9) s50 (frz f51)) (fun k => Q (.inr k) s50 (frz f51))) := by
      intro hb
      exact C_wrong hst (Q := fun o s' f' => Q o s' (frz f')) (htr x 3 0 hx (zput2_bad hb) _ _ (trzR hR2 (by omega) rfl (Frz.rf f) ⟨hz, hcb⟩ (Nat.le_add_right _ _))) (fun _ _ _ => rfl)
    refine vX3_change_181 hxv.isR ⟨fun e0 => bad ?_, fun e1 => ⟨fun g1 => ⟨inB_n (by omega), fun c => absurd rfl c, fun _ => ?_⟩, fun g0 => bad ?_⟩⟩
    · have : ¬ (zk i = 0 ∧ zk k = 0) := fun z => by rw [hb.mpr z] at e0; exact absurd e0 (by decide)
      omega
    · have hint : zk i = 0 ∧ zk k = 0 := hb.mp (by
        cases b
        · exact absurd rfl e1
        · rfl)
      have hgood : zk x = 2 ∧ zk v = 0 := hg.mp (by
        cases g
        · exact absurd rfl g1
        · rfl)
      have hnb : ¬ (zk x ≠ 2 ∨ zk i ≠ 0 ∨ zk k ≠ 0 ∨ zk v ≠ 0) := by omega
      have num : ∀ {t : Th} {m : Nat}, rcV E f (s2.2.2.1 24 m) (s2.2.2.2 25 m) t → zk t = 0 → s2.2.2.1 24 m = zv t := by
        intro t m ht z
        rcases ht.cls with ⟨_, _, c⟩ | ⟨_, _, _, c, _⟩
        · exact c
        · exact absurd z c
      obtain ⟨p, ep, -, -, -, hpx⟩ : ∃ p : Nat, cv = .ref p ∧ p < f.2.2.2 ∧ ¬ zk x = 0 ∧ oc f p (28 + zk x) ∧ RT E f cv x := by
        rcases hxv.cls with ⟨c, _⟩ | c
        · omega
        · exact c
      have hxT := zk2 hgood.1
      rw [ep, hxT] at hpx
      have wx' := wx
      rw [hxT] at wx'
      have hznT : zn x = (zt x).length := by rw [hxT]; rfl
      have hze : ∀ kk, kk < (zt x).length → zr (zel x kk) = (zt x).getD kk [] := fun kk hkk => by
        rw [hxT, zel_T _ hkk]; rfl
      rw [h26', show nI (C.length + 3) - 1 = nI (C.length + 2) from nI_pred (C.length + 2), nI_1, nI_clamp (n := C.length) (by omega), nI_clamp (n := C.length + 1) (by omega), num hi hint.1, num hj hint.2, ep]
      have hb1f : b1 < f.2.2.2 := Nat.lt_of_lt_of_le hb1 hF.2.2.1
      refine ⟨inB_n (by omega), EvC.fz (C_changed2 hst (v := v) hpx wx' (by omega) (num hv hgood.2) hb1f ho1 (by rw [hF.vlE hb1]; exact h201) (by rw [hF.vlE hb1]; exact h198) (by rw [hF.vlE hb1]; exact h199) (by omega) hz hcb (fun c f1 g hFz hcbz => ?_) (fun c c2 f1 g hFz hcbz => ?_) (fun c c2 e f1 g hFz hcbz => ?_) (fun c c2 v' e hk' cc q f1 hq hcc g hFz hcbz => ?_))⟩
      · refine Or.inl ⟨rfl, fun _ => C_wrong hst (Q := fun o s' f' => Q o s' (frz f')) (htr x 5 0 hx (zput2_no hnb (zix_n ?_)) _ _ (trzR hR2 (by omega) rfl hFz hcbz (by have := g.2.2.1; omega))) (fun _ _ _ => rfl)⟩
        rw [hznT]; exact c
      · refine Or.inr ⟨rfl, htr x 5 1 hx (zput2_no2 hnb (zix_y (by rw [hznT]; exact c)) (zix_n ?_)) _ _ (trzR hR2 (by omega) rfl hFz hcbz (by have := g.2.2.1; omega))⟩
        rw [hze _ c.2]; exact c2
      · have hz1 := (zput2_ok hnb (zix_y (by rw [hznT]; exact c)) (zix_y (by rw [hze _ c.2]; exact c2))).1
        rw [hze _ c.2] at hz1
        have hz1 := hz1.trans e
        obtain ⟨e', q, e2, rfl⟩ : ∃ e' q, zput2 x i k v = .inl (e', q) ∧ e' = 2 := by
          unfold zpu2 at hz1
          split at hz1
          · next e' q e2 => cases hz1; exact ⟨_, _, e2, rfl⟩
          · cases hz1
        have hq0 : q = 0 := by
          rcases zput2_q e2 with z | z
          · exact z
          · exact absurd z.1 (by decide)
        subst hq0
        exact Or.inr ⟨rfl, htr x 2 0 hx e2 _ _ (trzR hR2 (by omega) rfl hFz hcbz (by have := g.2.2.1; omega))⟩
      · have hz1 := (zput2_ok hnb (zix_y (by rw [hznT]; exact c)) (zix_y (by rw [hze _ c.2]; exact c2))).1
        rw [hze _ c.2] at hz1
        have hz1 := hz1.trans e
        have e2 : zput2 x i k v = .inr v' := by
          unfold zpu2 at hz1
          split at hz1
          · cases hz1
          · next t e2 => cases hz1; exact e2
        exact ⟨q, rfl, C_chg hst hR2 rfl (by omega) hN hn hb1 ho h196 hFz hcbz g.2.2.1 hq hk' (zw_pu2 wx hz1).1 hcc (fun c s' f' => hgt x v' hx e2 c s' f') (fun c s' f' => hok x v' hx e2 c s' f')⟩
    · have : ¬ (zk x = 2 ∧ zk v = 0) := fun z => by rw [hg.mpr z] at g0; exact absurd g0 (by decide)
      omega
  have h89 : ∀ b : Bool, (b = true ↔ (zk i = 0 ∧ zk k = 0)) → ExC l E w (d + 6) MX3_change 89 [some (.ref (w.1 3)), some (.ref b1), some (.int 3), some (.int (nI C.length)), some cv, some (.int fp), none, none, none, none] [.int (bI b)] s2 f (fun o s' f' => Q o s' (frz f')) := by
    intro b hb
    refine vX3_change_89 hxv.isR ⟨fun c => absurd rfl c, fun _ => ⟨hxv.isT, ?_⟩⟩
    by_cases c : zk x = 2
    · obtain ⟨p, c1, c2⟩ := (hxv.isRow 2 (by decide) (by decide)).1 c
      refine is_y (X := True) c1 c2 ?_
      rw [nI_l2]
      refine C_isInt hst (by omega) hv ⟨_, rfl, fun c' => ?_, fun c' => ?_⟩
      · rw [← c1]; exact h181 b false hb ⟨fun z => absurd z (by decide), fun z => absurd z.2 (bI_0 c')⟩
      · rw [← c1]; exact h181 b true hb ⟨fun _ => ⟨c, bI_1 c'⟩, fun _ => rfl⟩
    · exact is_n ((hxv.isRow 2 (by decide) (by decide)).2 c) (h181 b false hb ⟨fun z => absurd z (by decide), fun z => absurd z.1 c⟩)
  refine C_isInt hst (by omega) hi ⟨_, rfl, fun c => ?_, fun c => ?_⟩
  · exact h89 false ⟨fun z => absurd z (by decide), fun z => absurd z.1 (bI_0 c)⟩
  · rw [nI_1]
    refine C_isInt hst (by omega) hj ⟨_, rfl, fun c2 => ?_, fun c2 => ?_⟩
    · exact h89 false ⟨fun z => absurd z (by decide), fun z => absurd z.2 (bI_0 c2)⟩
    · exact h89 true ⟨fun _ => ⟨bI_1 c, bI_1 c2⟩, fun _ => rfl⟩
end CD9
