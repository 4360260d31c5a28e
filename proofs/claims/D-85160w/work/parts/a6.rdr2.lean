/-! THE READER: its state, names, calls -/
def rdR (w : CO) (f : RH) (x0 nw na ca cap : Nat) (vs : List Nat) (A : List (Nat × Nat × Nat)) : Prop :=
  (oc f x0 11 ∧ vl f x0 147 = .ref (w.1 2) ∧ x0 < f.1 ∧ f.2.2.2 ≤ x0) ∧
  (vl f x0 150 = .ref nw ∧ oc f nw 12 ∧ nw < f.1 ∧ f.2.2.2 ≤ nw ∧ vl f nw 156 = .int (nI vs.length) ∧ vl f nw 157 = .ref na) ∧
  (tg f na = some (.inr 1) ∧ ln f na = 14 ∧ na < f.1 ∧ f.2.2.2 ≤ na ∧ vs.length ≤ 14 ∧ (∀ v ∈ vs, v < 27 ^ 8) ∧ ∀ k, k < vs.length → vl f na k = .long (lN (cv (vs.getD k 0)))) ∧
  (vl f x0 151 = .ref ca ∧ tg f ca = some (.inr 8) ∧ ca < f.1 ∧ f.2.2.2 ≤ ca ∧ ln f ca = cap ∧ vl f x0 152 = .int (nI A.length) ∧ (A.length ≤ cap ∧ 16 ≤ cap ∧ cap ≤ 16 + 4 * A.length ∧ cap ≤ 8000) ∧ ∀ k, k < A.length → vl f ca k = .ref (A.getD k (0, 0, 0)).1 ∧ oc f (A.getD k (0, 0, 0)).1 19 ∧ (A.getD k (0, 0, 0)).1 < f.1)
theorem gE.oc {D : List Nat} {f f' : RH} (h : gE D f f') {a k : Nat} (q : oc f a k) (ha : a < f.1) : oc f' a k := ⟨(h.2.2.2 a ha).1.trans q.1, (h.2.2.2 a ha).2.1.trans q.2⟩
theorem gZ.oc {D : List Nat} {f f' : RH} (h : gZ D f f') {a k : Nat} (q : oc f a k) (ha : a < f.1) : oc f' a k := ⟨(h.2.2.2 a ha).1.trans q.1, (h.2.2.2 a ha).2.trans q.2⟩
section RD2
variable {l : Launch} {E : EN} {w : CO} {d : Nat} {s : CS} {f f' : RH} {Q : KO → CS → RH → Prop} {ch : Nat → Nat} {n p o x0 nw na ca cap : Nat} {vs : List Nat} {A : List (Nat × Nat × Nat)}
theorem rdR.ne (h : rdR w f x0 nw na ca cap vs A) : ¬ x0 = nw ∧ ¬ x0 = na ∧ ¬ x0 = ca ∧ ¬ nw = na ∧ ¬ nw = ca ∧ ¬ na = ca := by
  obtain ⟨⟨⟨g1, -⟩, -⟩, ⟨-, ⟨g2, -⟩, -⟩, ⟨g3, -⟩, ⟨-, g4, -⟩⟩ := h
  refine ⟨fun e => ?_, fun e => ?_, fun e => ?_, fun e => ?_, fun e => ?_, fun e => ?_⟩
  · rw [e, g2] at g1; cases g1
  · rw [e, g3] at g1; cases g1
  · rw [e, g4] at g1; cases g1
  · rw [e, g3] at g2; cases g2
  · rw [e, g4] at g2; cases g2
  · rw [e, g4] at g3; cases g3
theorem rdR.keep {D : List Nat} (h : rdR w f x0 nw na ca cap vs A) (hg : gE D f f') (hD : x0 ∉ D ∧ nw ∉ D ∧ na ∉ D ∧ ca ∉ D) : rdR w f' x0 nw na ca cap vs A := by
  obtain ⟨⟨h1, h2, h3, h4⟩, ⟨i1, i2, i3, i4, i5, i6⟩, ⟨j1, j2, j3, j4, j5, j6, j7⟩, ⟨k1, k2, k3, k4, k5, k6, k7, k8⟩⟩ := h
  have c0 := hg.ce h3 hD.1
  have c1 := hg.ce i3 hD.2.1
  have c2 := hg.ce j3 hD.2.2.1
  have c3 := hg.ce k3 hD.2.2.2
  have l := hg.1
  have cb := hg.2.1
  refine ⟨⟨ocE c0 h1, by rw [(cellE c0).2.2]; exact h2, by omega, by omega⟩, ⟨by rw [(cellE c0).2.2]; exact i1, ocE c1 i2, by omega, by omega, by rw [(cellE c1).2.2]; exact i5, by rw [(cellE c1).2.2]; exact i6⟩, ⟨by rw [(cellE c2).1]; exact j1, by rw [(cellE c2).2.1]; exact j2, by omega, by omega, j5, j6, fun k hk => by rw [(cellE c2).2.2]; exact j7 k hk⟩, ⟨by rw [(cellE c0).2.2]; exact k1, by rw [(cellE c3).1]; exact k2, by omega, by omega, by rw [(cellE c3).2.1]; exact k5, by rw [(cellE c0).2.2]; exact k6, k7, fun k hk => ?_⟩⟩
  obtain ⟨q1, q2, q3⟩ := k8 k hk
  exact ⟨by rw [(cellE c3).2.2]; exact q1, hg.oc q2 q3, by omega⟩
/-- a name's number -/
theorem rdR.nm {v : Nat} (h : rdR w f x0 nw na ca cap vs A) (hv : v < 27 ^ 8) (hl : nix vs v < 14) : ∀ f1 f2, f1 = fset f na (nix vs v) (.long (lN (cv v))) → f2 = fset f1 nw 156 (.int (if nI vs.length < nI (nix vs v) + 1 then nI (nix vs v) + 1 else nI vs.length)) → rdR w f2 x0 nw na ca cap (nup vs v) A ∧ gE [nw, na] f f2 ∧ f2.1 = f.1 ∧ f2.2.1 = f.2.1 := by
  intro f1 f2 e1 e2
  obtain ⟨n1, n2, n3, n4, n5, n6⟩ := h.ne
  obtain ⟨⟨h1, h2, h3, h4⟩, ⟨i1, i2, i3, i4, i5, i6⟩, ⟨j1, j2, j3, j4, j5, j6, j7⟩, ⟨k1, k2, k3, k4, k5, k6, k7, k8⟩⟩ := id h
  have ga : gE [nw, na] f f1 := by rw [e1]; exact (gE.setA na _ _ j1).mono (fun a ha => Or.inl (by rw [List.mem_singleton.mp ha]; simp))
  have gb : gE [nw, na] f1 f2 := by rw [e2]; exact (gE.set nw _ _).mono (fun a ha => Or.inl (by rw [List.mem_singleton.mp ha]; simp))
  have gg := ga.trans gb (fun _ h => Or.inl h)
  have sz : f2.1 = f.1 ∧ f2.2.1 = f.2.1 := by rw [e2, e1]; exact ⟨rfl, rfl⟩
  obtain ⟨x1, x2, x3⟩ := nix_is vs v
  have hln := nup_len vs v
  have i2' : oc f1 nw 12 := ga.oc i2 i3
  have cnw : f1.2.2.1 nw = f.2.2.1 nw := by rw [e1]; exact set_cell n4
  have cna : f2.2.2.1 na = f1.2.2.1 na := by rw [e2]; exact set_cell (fun e => n4 e.symm)
  have c0 := gg.ce h3 (by simp only [List.mem_cons, List.not_mem_nil, or_false]; omega)
  have c3 := gg.ce k3 (by simp only [List.mem_cons, List.not_mem_nil, or_false]; omega)
  have hlen : nI (nup vs v).length = (if nI vs.length < nI (nix vs v) + 1 then nI (nix vs v) + 1 else nI vs.length) := by
    rw [← nI_succ]
    unfold nup
    by_cases c : nix vs v = vs.length
    · rw [if_pos c, if_pos (by rw [c, Int32.lt_iff_toInt_lt, nI_toInt (by omega), nI_toInt (by omega)]; omega), List.length_append, c]; rfl
    · rw [if_neg c, if_neg (by rw [Int32.lt_iff_toInt_lt, nI_toInt (by omega), nI_toInt (by omega)]; omega)]
  refine ⟨⟨⟨ocE c0 h1, by rw [(cellE c0).2.2]; exact h2, by omega, by rw [gg.2.1]; exact h4⟩, ⟨by rw [(cellE c0).2.2]; exact i1, gg.oc i2 i3, by omega, by rw [gg.2.1]; exact i4, ?_, ?_⟩, ⟨by rw [(gg.2.2.2 na j3).1]; exact j1, by rw [(gg.2.2.2 na j3).2.1]; exact j2, by omega, by rw [gg.2.1]; exact j4, ?_, ?_, fun k hk => ?_⟩, ⟨by rw [(cellE c0).2.2]; exact k1, by rw [(cellE c3).1]; exact k2, by omega, by rw [gg.2.1]; exact k4, by rw [(cellE c3).2.1]; exact k5, by rw [(cellE c0).2.2]; exact k6, k7, fun k hk => ?_⟩⟩, gg, sz⟩
  · rw [e2, hlen]; exact set_vl i2'.1
  · rw [e2]; refine (set_vn i2'.1 (by decide)).trans ?_; rw [(cellE cnw).2.2]; exact i6
  · unfold nup; split
    · rw [List.length_append]; show vs.length + 1 ≤ 14; omega
    · exact j5
  · intro u hu
    unfold nup at hu
    split at hu
    · rcases List.mem_append.mp hu with hu | hu
      · exact j6 u hu
      · rw [List.mem_singleton.mp hu]; exact hv
    · exact j6 u hu
  · rw [(cellE cna).2.2]
    by_cases ek : k = nix vs v
    · subst ek
      have : (nup vs v).getD (nix vs v) 0 = v := by
        unfold nup; split
        · rename_i c; rw [c]; exact getD_last _ _ _
        · rename_i c; exact x3 (by omega)
      rw [this, e1]; exact set_vl j1
    · have hk2 : k < vs.length := by
        unfold nup at hk
        split at hk
        · rename_i c; rw [List.length_append] at hk; have : k < vs.length + 1 := hk; omega
        · exact hk
      have : (nup vs v).getD k 0 = vs.getD k 0 := by
        unfold nup; split
        · exact getD_app1 _ _ hk2
        · rfl
      rw [this, e1]; exact (set_vn j1 ek).trans (j7 k hk2)
  · obtain ⟨q1, q2, q3⟩ := k8 k hk
    exact ⟨by rw [(cellE c3).2.2]; exact q1, gg.oc q2 q3, by omega⟩
theorem R_name (hst : l.stackTraces = false) (h : cSc ch n p o s) (hc : cKc E f) (hr : rdR w f x0 nw na ca cap vs A) (hfb : f.2.2.2 ≤ f.1)
    (hno : ¬ ((tk ch n p).1 = 1 ∧ kw (tk ch n p) = 41) → ∀ s', cFl s s' 2 (tk ch n p).2.1 → Q (.inr 1) s' f)
    (hfull : (tk ch n p).1 = 1 → kw (tk ch n p) = 41 → ¬ (1 ≤ (tk ch n p).2.2.1 ∧ (tk ch n p).2.2.1 ≤ 8) → nix vs (tk ch n p).2.2.1 = 14 → ∀ s', cFl s s' 3 (tk ch n p).2.1 → Q (.inr 1) s' f)
    (hbad : (tk ch n p).1 = 1 → kw (tk ch n p) = 41 → ¬ (¬ (1 ≤ (tk ch n p).2.2.1 ∧ (tk ch n p).2.2.1 ≤ 8) ∧ nix vs (tk ch n p).2.2.1 = 14) → (tk ch n (tk ch n p).2.2.2).1 = 4 → ∀ s' f', cFl s s' 1 (tk ch n (tk ch n p).2.2.2).2.1 → f'.2.1 = f.2.1 → Q (.inr 1) s' f')
    (hok : (tk ch n p).1 = 1 → kw (tk ch n p) = 41 → ¬ (¬ (1 ≤ (tk ch n p).2.2.1 ∧ (tk ch n p).2.2.1 ≤ 8) ∧ nix vs (tk ch n p).2.2.1 = 14) → ∀ s' f', cfP s s' → cSc ch n (tk ch n p).2.2.2 o s' → rdR w f' x0 nw na ca cap (nmV vs (tk ch n p).2.2.1) A → gE [nw, na] f f' → f'.1 = f.1 → f'.2.1 = f.2.1 → Q (.inl (some (.int (nI (nmN vs (tk ch n p).2.2.1))))) s' f') : EvC l E w (d + 9) MX11_name [.ref x0] s f Q := by
  obtain ⟨r1, r2, r3, r4⟩ := id hr
  have ht := h.tk
  refine eR11_name hst ⟨r1.1, R_wantName hst h hc r1.1 r1.2.1 hno (fun z1 z2 => ⟨rfl, r1.1, r1.2.1, ?_⟩)⟩
  obtain ⟨w1, w2, w3, w4⟩ := tk_word z1
  replace hfull := hfull z1 z2
  replace hbad := hbad z1 z2
  replace hok := hok z1 z2
  refine C_name hst h.1 h.2.1.1 h.2.1.2.1 z1 ⟨_, rfl, R_isShelf hst w4 ⟨_, rfl, pk_b (fun c => ?_) (fun c => ⟨r1.1, r1.2.1, ?_⟩)⟩⟩
  · obtain ⟨v, ev⟩ : ∃ v, v = (tk ch n p).2.2.1 := ⟨_, rfl⟩
    rw [← ev] at hfull hbad hok c w4 ⊢
    obtain ⟨y1, y2, y3⟩ := nix_is vs v
    have hv := cv_lt v
    have hlen : vs.length ≤ 14 := r3.2.2.2.2.1
    have fin : nix vs v < 14 → (oc f x0 11 ∧ (∃ a14 : Nat, vl f x0 150 = .ref a14 ∧ (oc f a14 12 ∧ (∃ a15 : Nat, vl f a14 157 = .ref a15 ∧ (tg f a15 = some (.inr 1) ∧ inB (nI (nix vs v)) (ln f a15) ∧ f.2.2.2 ≤ a15 ∧ ∀ f16 : RH, f16 = fset f a15 (nI (nix vs v)).toNatClampNeg (.long (lN (cv v))) → (oc f16 x0 11 ∧ (∃ a17 : Nat, vl f16 x0 150 = .ref a17 ∧ (oc f16 x0 11 ∧ (∃ a18 : Nat, vl f16 x0 150 = .ref a18 ∧ (oc f16 a18 12 ∧ (∃ v19 : Int32, vl f16 a18 156 = .int v19 ∧ (oc f16 a17 12 ∧ f16.2.2.2 ≤ a17 ∧ ∀ f20 : RH, f20 = fset f16 a17 156 (.int (if v19 < (nI (nix vs v) + 1) then (nI (nix vs v) + 1) else v19)) → (oc f20 x0 11 ∧ vl f20 x0 147 = .ref (w.1 2) ∧ (EvC l E w (d + 8) MX2_next [.ref (w.1 2)] s f20 (fun o s21 f22 => KP o (fun r => r = none ∧ Q (.inl (some (.int (8 + nI (nix vs v))))) s21 f22) (fun k => Q (.inr k) s21 f22)))))))))))))))) := by
      intro hlt
      obtain ⟨n1, n2, n3, n4, n5, n6⟩ := hr.ne
      refine ⟨r1.1, nw, r2.1, r2.2.1, na, r2.2.2.2.2.2, r3.1, by rw [r3.2.1]; exact inB_n hlt, r3.2.2.2.1, fun f1 e1 => ?_⟩
      rw [nI_clamp (by omega)] at e1
      have c0 : f1.2.2.1 x0 = f.2.2.1 x0 := by rw [e1]; exact set_cell n2
      have cn : f1.2.2.1 nw = f.2.2.1 nw := by rw [e1]; exact set_cell n4
      refine ⟨ocE c0 r1.1, nw, by rw [(cellE c0).2.2]; exact r2.1, ocE c0 r1.1, nw, by rw [(cellE c0).2.2]; exact r2.1, ocE cn r2.2.1, _, by rw [(cellE cn).2.2]; exact r2.2.2.2.2.1, ocE cn r2.2.1, by rw [e1]; exact r2.2.2.2.1, fun f2 e2 => ?_⟩
      obtain ⟨q1, q2, q3, q4⟩ := hr.nm w4 hlt f1 f2 e1 e2
      have hc2 : cKc E f2 := hc.ge q2 (fun a ha => by
        simp only [List.mem_cons, List.not_mem_nil, or_false] at ha
        rcases ha with rfl | rfl
        · exact r2.2.2.2.1
        · exact r3.2.2.2.1) hfb
      refine ⟨q1.1.1, q1.1.2.1, C_nextS hst h hc2.1 (fun s' zb hF => hbad (fun y => by omega) zb s' f2 hF q4) (fun s' hf hs => ⟨rfl, ?_⟩)⟩
      have := hok (fun y => by omega) s' f2 hf hs (by unfold nmV; rw [if_neg c]; exact q1) q2 q3 q4
      unfold nmN at this
      rw [if_neg c] at this
      rw [show (8 : Int32) + nI (nix vs v) = nI (8 + nix vs v) from nI_add 8 _]
      exact this
    have full : nix vs v = 14 → (oc f x0 11 ∧ vl f x0 147 = .ref (w.1 2) ∧ (oc f x0 11 ∧ vl f x0 147 = .ref (w.1 2) ∧ (EvC l E w (d + 8) MX2_wrong [.ref (w.1 2), .int 3, .int (s.1 21)] s f (fun o s23 f24 => KP o (fun r => r = some (.ref (w.1 1)) ∧ Q (.inr 1) s23 f24) (fun k => Q (.inr k) s23 f24))))) := fun z =>
      ⟨r1.1, r1.2.1, r1.1, r1.2.1, eX2_wrong hst ⟨rfl, hfull c z _ ⟨(cfP.uI _ 14 _).trans (cfP.uI _ 15 _), rfl, h.2.1.1.2.1⟩⟩⟩
    have main : ∀ m i, nix vs v - i ≤ m → i ≤ nix vs v → ExC l E w (d + 9) MX11_name 33 [some (.ref x0), some (.long (lN (cv v))), none, some (.int (nI i))] [] s f Q := by
      intro m
      induction m with
      | zero =>
        intro i hm hi
        have ei : i = nix vs v := by omega
        subst ei
        refine vR11_name_33 ⟨r1.1, nw, r2.1, r2.2.1, _, r2.2.2.2.2.1, pk_le vs.length (nix vs v) (fun z => bn_eq (nix vs v) 14 (fun y => fin (by omega)) (fun y => full y) rfl rfl) (fun z => ⟨r1.1, nw, r2.1, r2.2.1, na, r2.2.2.2.2.2, r3.1, by rw [r3.2.1]; exact inB_n (by omega), _, by rw [nI_clamp (by omega)]; exact r3.2.2.2.2.2.2 _ z, ?_⟩) rfl rfl⟩
        refine ⟨fun _ => bn_eq (nix vs v) 14 (fun y => fin (by omega)) (fun y => full y) rfl rfl, fun y => absurd ?_ y⟩
        rw [y3 z]; exact (lN_cmp hv hv).mpr rfl
      | succ m ih =>
        intro i hm hi
        by_cases ei : i = nix vs v
        · exact ih i (by omega) hi
        refine vR11_name_33 ⟨r1.1, nw, r2.1, r2.2.1, _, r2.2.2.2.2.1, pk_le vs.length i (fun z => absurd z (by omega)) (fun z => ⟨r1.1, nw, r2.1, r2.2.1, na, r2.2.2.2.2.2, r3.1, by rw [r3.2.1]; exact inB_n (by omega), _, by rw [nI_clamp (by omega)]; exact r3.2.2.2.2.2.2 _ z, ?_⟩) rfl rfl⟩
        have hg := y2 i (by omega)
        have hvi := r3.2.2.2.2.2.1 _ (getD_mem 0 z)
        refine ⟨fun y => absurd ((lN_cmp (cv_lt _) hv).mp y) (fun q => hg ((cv_inj hvi w4).mp q)), fun _ => ?_⟩
        rw [← nI_succ]
        exact ih (i + 1) (by omega) (by omega)
    exact main _ 0 (Nat.le_refl _) (Nat.zero_le _)
  · refine C_nextS hst h hc.1 (fun s' zb hF => hbad (fun y => y.1 c) zb s' f hF rfl) (fun s' hf hs => ⟨rfl, ?_⟩)
    have hcv := (cv_shelf w4).2 c.2
    have := hok (fun y => y.1 c) s' f hf hs (by unfold nmV; rw [if_pos c]; exact hr) (gE.rf _ _) rfl rfl
    unfold nmN at this
    rw [if_pos c] at this
    rw [hcv, lN_i32 (by omega), nI_p1 (by omega)]
    exact this
end RD2
