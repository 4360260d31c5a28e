/-! THE MODEL: the orders, one by one -/
theorem mOd.fr {P : Pg} {s s' : MS} {pc : Nat} (h : mOd P s pc) (hA : ∀ j, j ∉ JRA → s'.2.2.1 j = s.2.2.1 j) : mOd P s' pc := by
  unfold mOd
  rw [hA 80 (by decide), hA 81 (by decide), hA 82 (by decide), hA 83 (by decide), hA 84 (by decide), hA 77 (by decide)]
  exact h
theorem i32_nn (n : Nat) (h : n < 2 ^ 31) : ¬ nI n < 0 := by
  rw [Int32.lt_iff_toInt_lt, nI_toInt h]
  show ¬ (n : Int) < 0
  omega
section MD
variable {l : Launch} {E : EN} {w : MO} {d : Nat} {Q : Option Value → MS → Prop} {P : Pg} {fuel : Nat} {s0 s : MS} {pc : Nat} {pl : List Th} {fr : List Fm} {wy : List Wy} {sh : Nat → Option Th} {ct : Ct} {out : List Int32}
theorem mS.code (h : mS fuel s0 pc pl fr wy sh ct out s) {q : Nat} (hc : mCode P s0) (hq : ¬ (P.1 q).1 = 0) : mOd P s q := by
  obtain ⟨b, hB, _⟩ := h
  exact (hc q hq).fr hB.2.2.2.2.2.2.2.2.2.2.2.2.2
theorem mS.step (h : mS fuel s0 pc pl fr wy sh ct out s) (hs : ¬ ct.1 = fuel) : mS fuel s0 pc pl fr wy sh (ct.1 + 1, ct.2) out (sI s 117 (nI (ct.1 + 1))) := by
  obtain ⟨b, hB, hP, h105, h108, h119, hb, h123, h124, h126⟩ := h
  exact ⟨b, hB.step hs, hP.si, h105, h108, h119, hb, h123, h124, h126⟩
theorem mS.tr {a : List Th} {k : Nat} {kk p : Int32} (h : mS fuel s0 pc (a ++ pl) fr wy sh ct out s) (e : kk = nI k) (h0 : ¬ k = 0) (h9 : k < 12) (hn : ¬ k = 9) : mTr fuel s0 pl fr wy sh ct out (k, p, 0) (sI (sI s 123 kk) 124 p) := by
  obtain ⟨b, hB, hP, h105, h108, h119, hb, h123, h124, h126⟩ := h
  exact ⟨b, (hB.si 123 kk).si 124 p, ((mPs.tl a pl hP).si (j := 123) (v := kk)).si, h105, h119, by omega, e, h0, h9, rfl, fun c => absurd c hn⟩
theorem mS.jump {q : Nat} (h : mS fuel s0 pc pl fr wy sh ct out s) : mS fuel s0 q pl fr wy sh ct out (sI s 126 (nI q)) := by
  obtain ⟨b, hB, hP, h105, h108, h119, hb, h123, h124, h126⟩ := h
  exact ⟨b, hB.si 126 _, hP.si, h105, h108, h119, hb, h123, h124, fun _ => rfl⟩
theorem mS.pop {x : Th} (h : mS fuel s0 pc (x :: pl) fr wy sh ct out s) : mS fuel s0 pc pl fr wy sh ct out (sI s 108 (nI pl.length)) := by
  obtain ⟨b, hB, hP, h105, h108, h119, hb, h123, h124, h126⟩ := h
  exact ⟨b, hB.si 108 _, hP.2.si, h105, rfl, h119, hb, h123, h124, h126⟩
theorem mS.z (h : mS fuel s0 pc pl fr wy sh ct out s) : s.1 123 = 0 := by
  obtain ⟨b, hB, hP, h105, h108, h119, hb, h123, h124, h126⟩ := h
  exact h123
theorem M_step (hst : l.stackTraces = false) (hS : mS fuel s0 pc pl fr wy sh ct out s) (h1 : ¬ ct.1 = fuel → mS fuel s0 pc pl fr wy sh (ct.1 + 1, ct.2) out (sI s 117 (nI (ct.1 + 1))) → Q none (sI s 117 (nI (ct.1 + 1)))) (h2 : ct.1 = fuel → mTr fuel s0 pl fr wy sh ct out (10, s.1 127, 0) (sI (sI s 123 10) 124 (s.1 127)) → Q none (sI (sI s 123 10) 124 (s.1 127))) : EvM l E w (d + 1) MX10_step [.ref w.1] s Q := by
  have hst1 := fun c => hS.step c
  have htr : mTr fuel s0 pl fr wy sh ct out (10, s.1 127, 0) (sI (sI s 123 10) 124 (s.1 127)) := mS.tr (a := []) hS rfl (by decide) (by decide) (by decide)
  have h0 := hS.z
  obtain ⟨b, hB, _⟩ := hS
  obtain ⟨a1, a2, a3, a4⟩ := hB.2.2.2.2.2.1
  refine eX10_step hst ?_
  rw [a1, a2, nI_1]
  exact bn_eq ct.1 fuel (fun c => h1 c (hst1 c)) (fun c => M_trouble hst h0 ⟨rfl, h2 c htr⟩) rfl rfl
theorem D_step (hst : l.stackTraces = false) (hc : mCode P s0) (hg : aGood P fuel (pc, pl, fr, wy, sh, ct, out, (0, -1, 0))) (hS : mS fuel s0 (pc + 1) pl fr wy sh ct out s) (h127 : s.1 127 = (P.1 pc).2.2.2.2) (ho : (P.1 pc).1 = 1 ∨ (P.1 pc).1 = 16)
    (hQ : ∀ s', mRz fuel s0 (doA P fuel (pc, pl, fr, wy, sh, ct, out, (0, -1, 0))) s' → Q none s') : EvM l E w (d + 9) MX10_does [.ref w.1, .int (nI pc)] s Q := by
  obtain ⟨hpl, hfr, hfr1, hwy, hzw, hmd, -, hfit, -⟩ := hg
  have hpl : pl.length ≤ 8300 := hpl
  have hfr : fr.length ≤ 10 := hfr
  have hfr1 : 1 ≤ fr.length := hfr1
  have hwy : wy.length ≤ 390 := hwy
  have hmd : ct.2.1 ≤ 3000 := hmd
  have hfne : ¬ fr = [] := fun c => by rw [c] at hfr1; exact absurd hfr1 (by decide)
  have hop := hS.code hc hfit.1
  obtain ⟨o1, o2, o3, o4, o5, o6, o7, o8, o9, o10, o11, o12, o13, o14, o15⟩ := id hop
  have hneed := hfit.2.1
  have e : doA P fuel (pc, pl, fr, wy, sh, ct, out, (0, -1, 0)) = (if ct.1 = fuel then (pc + 1, pl, fr, wy, sh, ct, out, (10, (P.1 pc).2.2.2.2, 0)) else (pc + 1, pl, fr, wy, sh, (ct.1 + 1, ct.2), out, (0, -1, 0))) := if_pos ho
  rw [e] at hQ
  refine eX10_does hst ⟨inB_n o1, ?_⟩
  rw [nI_clamp (by omega), o2]
  refine ⟨fun _ => M_step hst hS (fun c q => ⟨rfl, hQ _ ?_⟩) (fun c q => ⟨rfl, hQ _ ?_⟩), fun c => absurd ?_ c⟩
  · rw [if_neg c]; exact Or.inl ⟨rfl, q⟩
  · rw [if_pos c, ← h127]; exact Or.inr q
  · rcases ho with ho | ho <;> rw [ho] <;> decide
theorem D_int (hst : l.stackTraces = false) (hc : mCode P s0) (hg : aGood P fuel (pc, pl, fr, wy, sh, ct, out, (0, -1, 0))) (hS : mS fuel s0 (pc + 1) pl fr wy sh ct out s) (h127 : s.1 127 = (P.1 pc).2.2.2.2) (ho : (P.1 pc).1 = 2)
    (hQ : ∀ s', mRz fuel s0 (doA P fuel (pc, pl, fr, wy, sh, ct, out, (0, -1, 0))) s' → Q none s') : EvM l E w (d + 9) MX10_does [.ref w.1, .int (nI pc)] s Q := by
  obtain ⟨hpl, hfr, hfr1, hwy, hzw, hmd, -, hfit, -⟩ := hg
  have hpl : pl.length ≤ 8300 := hpl
  have hfr : fr.length ≤ 10 := hfr
  have hfr1 : 1 ≤ fr.length := hfr1
  have hwy : wy.length ≤ 390 := hwy
  have hmd : ct.2.1 ≤ 3000 := hmd
  have hfne : ¬ fr = [] := fun c => by rw [c] at hfr1; exact absurd hfr1 (by decide)
  have hop := hS.code hc hfit.1
  obtain ⟨o1, o2, o3, o4, o5, o6, o7, o8, o9, o10, o11, o12, o13, o14, o15⟩ := id hop
  have hneed := hfit.2.1
  have e : doA P fuel (pc, pl, fr, wy, sh, ct, out, (0, -1, 0)) = (pc + 1, zI (P.1 pc).2.2.2.1 :: pl, fr, wy, sh, ct, out, (0, -1, 0)) := by
    unfold doA
    dsimp only
    rw [ho]
    rfl
  rw [e] at hQ
  obtain ⟨b, hB, hP, h105, h108, h119, hb, h123, h124, h126⟩ := hS
  refine eX10_does hst ⟨inB_n o1, ?_⟩
  rw [nI_clamp (by omega), o2, ho]
  refine ⟨fun c => absurd c (by decide), fun _ => ⟨fun _ => ⟨inB_n o1, ?_⟩, fun c => absurd (by decide) c⟩⟩
  rw [o5 ho]
  refine M_push hst h108 (by omega) ⟨rfl, hQ _ (Or.inl ⟨rfl, b, hB.pu _ _ _, hP.pu (Or.inl ⟨rfl, rfl, rfl⟩), h105, rfl, h119, hb, h123, h124, h126⟩)⟩
theorem D_get (hst : l.stackTraces = false) (hc : mCode P s0) (hg : aGood P fuel (pc, pl, fr, wy, sh, ct, out, (0, -1, 0))) (hS : mS fuel s0 (pc + 1) pl fr wy sh ct out s) (h127 : s.1 127 = (P.1 pc).2.2.2.2) (ho : (P.1 pc).1 = 3)
    (hQ : ∀ s', mRz fuel s0 (doA P fuel (pc, pl, fr, wy, sh, ct, out, (0, -1, 0))) s' → Q none s') : EvM l E w (d + 9) MX10_does [.ref w.1, .int (nI pc)] s Q := by
  obtain ⟨hpl, hfr, hfr1, hwy, hzw, hmd, -, hfit, -⟩ := hg
  have hpl : pl.length ≤ 8300 := hpl
  have hfr : fr.length ≤ 10 := hfr
  have hfr1 : 1 ≤ fr.length := hfr1
  have hwy : wy.length ≤ 390 := hwy
  have hmd : ct.2.1 ≤ 3000 := hmd
  have hfne : ¬ fr = [] := fun c => by rw [c] at hfr1; exact absurd hfr1 (by decide)
  have hop := hS.code hc hfit.1
  obtain ⟨o1, o2, o3, o4, o5, o6, o7, o8, o9, o10, o11, o12, o13, o14, o15⟩ := id hop
  have hneed := hfit.2.1
  have e : doA P fuel (pc, pl, fr, wy, sh, ct, out, (0, -1, 0)) = (match aget fr sh (P.1 pc).2.1 with
      | none => (pc + 1, pl, fr, wy, sh, ct, out, (7, (P.1 pc).2.2.2.2, 0))
      | some v => (pc + 1, v :: pl, fr, wy, sh, ct, out, (0, -1, 0))) := by
    unfold doA
    dsimp only
    rw [ho]
    rfl
  rw [e] at hQ
  have htr : mTr fuel s0 pl fr wy sh ct out (7, s.1 127, 0) (sI (sI s 123 7) 124 (s.1 127)) := mS.tr (a := []) hS rfl (by decide) (by decide) (by decide)
  obtain ⟨b, hB, hP, h105, h108, h119, hb, h123, h124, h126⟩ := hS
  have hv := hB.get hfr1 (o9 (by rw [ho]; decide))
  have ht := o9 (by rw [ho]; decide)
  refine eX10_does hst ⟨inB_n o1, ?_⟩
  rw [nI_clamp (by omega), o2, ho]
  refine ⟨fun c => absurd c (by decide), fun _ => ⟨fun c => absurd c (by decide), fun _ => ⟨fun _ => ⟨inB_n o1, ?_⟩, fun c => absurd (by decide) c⟩⟩⟩
  rw [(o8 (by rw [ho]; decide)).1]
  refine M_kindOf hst hB.2.1 hfr1 hfr ht ⟨_, rfl, ?_⟩
  generalize aget fr sh (P.1 pc).2.1 = r at hv hQ
  cases r with
  | none =>
    have hv : mgK s fr.length (P.1 pc).2.1 = 2 := hv
    refine ⟨fun c => absurd hv c, fun _ => M_trouble hst h123 ⟨rfl, hQ _ ?_⟩⟩
    rw [← h127]
    exact Or.inr htr
  | some v =>
    have k01 : ¬ mgK s fr.length (P.1 pc).2.1 = 2 := by
      rcases hv.1 with ⟨_, q, _⟩ | ⟨_, q, _⟩ <;> rw [q] <;> decide
    refine ⟨fun _ => ⟨inB_n o1, ?_⟩, fun c => absurd c k01⟩
    rw [(o8 (by rw [ho]; decide)).1]
    refine M_kindOf hst hB.2.1 hfr1 hfr ht ⟨_, rfl, inB_n o1, ?_⟩
    rw [(o8 (by rw [ho]; decide)).1]
    exact M_valueOf hst hB.2.1 hfr1 hfr ht ⟨_, rfl, M_push hst h108 (by omega) ⟨rfl, hQ _ (Or.inl ⟨rfl, b, hB.pu _ _ _, hP.pu hv.1, h105, rfl, h119, hb, h123, h124, h126⟩)⟩⟩
theorem D_put (hst : l.stackTraces = false) (hc : mCode P s0) (hg : aGood P fuel (pc, pl, fr, wy, sh, ct, out, (0, -1, 0))) (hS : mS fuel s0 (pc + 1) pl fr wy sh ct out s) (h127 : s.1 127 = (P.1 pc).2.2.2.2) (ho : (P.1 pc).1 = 12)
    (hQ : ∀ s', mRz fuel s0 (doA P fuel (pc, pl, fr, wy, sh, ct, out, (0, -1, 0))) s' → Q none s') : EvM l E w (d + 9) MX10_does [.ref w.1, .int (nI pc)] s Q := by
  obtain ⟨hpl, hfr, hfr1, hwy, hzw, hmd, -, hfit, -⟩ := hg
  have hpl : pl.length ≤ 8300 := hpl
  have hfr : fr.length ≤ 10 := hfr
  have hfr1 : 1 ≤ fr.length := hfr1
  have hwy : wy.length ≤ 390 := hwy
  have hmd : ct.2.1 ≤ 3000 := hmd
  have hfne : ¬ fr = [] := fun c => by rw [c] at hfr1; exact absurd hfr1 (by decide)
  have hop := hS.code hc hfit.1
  obtain ⟨o1, o2, o3, o4, o5, o6, o7, o8, o9, o10, o11, o12, o13, o14, o15⟩ := id hop
  have hneed := hfit.2.1
  obtain ⟨x, r, rfl⟩ : ∃ x r, pl = x :: r := by
    cases pl with
    | nil =>
      have e1 : aNeed (P.1 pc) = 1 := by
        unfold aNeed
        rw [ho]
        rfl
      rw [e1] at hneed
      exact absurd hneed (by show ¬ 1 ≤ 0; decide)
    | cons x r => exact ⟨x, r, rfl⟩
  have hpl : r.length + 1 ≤ 8300 := hpl
  have wx : ZW x := hzw x List.mem_cons_self
  have e : doA P fuel (pc, x :: r, fr, wy, sh, ct, out, (0, -1, 0)) = (pc + 1, r, aputF fr (P.1 pc).2.1 x, wy, aputS sh (P.1 pc).2.1 x, ct, out, (0, -1, 0)) := by
    unfold doA
    dsimp only
    rw [ho]
    rfl
  rw [e] at hQ
  obtain ⟨b, hB, hP, h105, h108, h119, hb, h123, h124, h126⟩ := hS
  have h108 : s.1 108 = nI (r.length + 1) := h108
  have e108 : s.1 108 - 1 = nI r.length := by rw [h108]; exact nI_pred r.length
  have ht := o9 (by rw [ho]; decide)
  refine eX10_does hst ⟨inB_n o1, ?_⟩
  rw [nI_clamp (by omega), o2, ho]
  refine ⟨fun c => absurd c (by decide), fun _ => ⟨fun c => absurd c (by decide), fun _ => ⟨fun c => absurd c (by decide), fun _ => ⟨fun c => absurd c (by decide), fun _ => ⟨fun c => absurd c (by decide), fun _ => ⟨fun _ => ⟨inB_n o1, ?_⟩, fun c => absurd (by decide) c⟩⟩⟩⟩⟩⟩
  rw [e108, (o8 (by rw [ho]; decide)).1, nI_clamp (by omega)]
  refine ⟨inB_n (by omega), inB_n (by omega), M_store hst (D := fr.length) hB.2.1 hfr1 hfr ht ⟨rfl, hQ _ (Or.inl ⟨rfl, b, (hB.si 108 (nI r.length)).store hP.1 wx hfr1 ht, (hP.2.si (j := 108) (v := nI r.length)).store, ?_, ?_, ?_, hb, ?_, ?_, fun c => ?_⟩)⟩⟩
  · rw [mst_1]; exact h105
  · rw [mst_1]; rfl
  · rw [mst_1]; exact h119
  · rw [mst_1]; exact h123
  · rw [mst_1]; exact h124
  · rw [mst_1]; exact h126 hfne
theorem D_goto (hst : l.stackTraces = false) (hc : mCode P s0) (hg : aGood P fuel (pc, pl, fr, wy, sh, ct, out, (0, -1, 0))) (hS : mS fuel s0 (pc + 1) pl fr wy sh ct out s) (h127 : s.1 127 = (P.1 pc).2.2.2.2) (ho : (P.1 pc).1 = 15)
    (hQ : ∀ s', mRz fuel s0 (doA P fuel (pc, pl, fr, wy, sh, ct, out, (0, -1, 0))) s' → Q none s') : EvM l E w (d + 9) MX10_does [.ref w.1, .int (nI pc)] s Q := by
  obtain ⟨hpl, hfr, hfr1, hwy, hzw, hmd, -, hfit, -⟩ := hg
  have hpl : pl.length ≤ 8300 := hpl
  have hfr : fr.length ≤ 10 := hfr
  have hfr1 : 1 ≤ fr.length := hfr1
  have hwy : wy.length ≤ 390 := hwy
  have hmd : ct.2.1 ≤ 3000 := hmd
  have hfne : ¬ fr = [] := fun c => by rw [c] at hfr1; exact absurd hfr1 (by decide)
  have hop := hS.code hc hfit.1
  obtain ⟨o1, o2, o3, o4, o5, o6, o7, o8, o9, o10, o11, o12, o13, o14, o15⟩ := id hop
  have hneed := hfit.2.1
  have e : doA P fuel (pc, pl, fr, wy, sh, ct, out, (0, -1, 0)) = ((P.1 pc).2.1, pl, fr, wy, sh, ct, out, (0, -1, 0)) := by
    unfold doA
    dsimp only
    rw [ho]
    rfl
  rw [e] at hQ
  refine eX10_does hst ⟨inB_n o1, ?_⟩
  rw [nI_clamp (by omega), o2, ho]
  refine ⟨fun c => absurd c (by decide), fun _ => ⟨fun c => absurd c (by decide), fun _ => ⟨fun c => absurd c (by decide), fun _ => ⟨fun c => absurd c (by decide), fun _ => ⟨fun c => absurd c (by decide), fun _ => ⟨fun c => absurd c (by decide), fun _ => ⟨fun c => absurd c (by decide), fun _ => ⟨fun _ => ⟨inB_n o1, ?_⟩, fun c => absurd (by decide) c⟩⟩⟩⟩⟩⟩⟩⟩
  rw [(o8 (by rw [ho]; decide)).1]
  exact hQ _ (Or.inl ⟨rfl, hS.jump⟩)
theorem D_drop (hst : l.stackTraces = false) (hc : mCode P s0) (hg : aGood P fuel (pc, pl, fr, wy, sh, ct, out, (0, -1, 0))) (hS : mS fuel s0 (pc + 1) pl fr wy sh ct out s) (h127 : s.1 127 = (P.1 pc).2.2.2.2) (ho : (P.1 pc).1 = 22)
    (hQ : ∀ s', mRz fuel s0 (doA P fuel (pc, pl, fr, wy, sh, ct, out, (0, -1, 0))) s' → Q none s') : EvM l E w (d + 9) MX10_does [.ref w.1, .int (nI pc)] s Q := by
  obtain ⟨hpl, hfr, hfr1, hwy, hzw, hmd, -, hfit, -⟩ := hg
  have hpl : pl.length ≤ 8300 := hpl
  have hfr : fr.length ≤ 10 := hfr
  have hfr1 : 1 ≤ fr.length := hfr1
  have hwy : wy.length ≤ 390 := hwy
  have hmd : ct.2.1 ≤ 3000 := hmd
  have hfne : ¬ fr = [] := fun c => by rw [c] at hfr1; exact absurd hfr1 (by decide)
  have hop := hS.code hc hfit.1
  obtain ⟨o1, o2, o3, o4, o5, o6, o7, o8, o9, o10, o11, o12, o13, o14, o15⟩ := id hop
  have hneed := hfit.2.1
  obtain ⟨x, r, rfl⟩ : ∃ x r, pl = x :: r := by
    cases pl with
    | nil =>
      have e1 : aNeed (P.1 pc) = 1 := by
        unfold aNeed
        rw [ho]
        rfl
      rw [e1] at hneed
      exact absurd hneed (by show ¬ 1 ≤ 0; decide)
    | cons x r => exact ⟨x, r, rfl⟩
  have hpl : r.length + 1 ≤ 8300 := hpl
  have wx : ZW x := hzw x List.mem_cons_self
  have e : doA P fuel (pc, x :: r, fr, wy, sh, ct, out, (0, -1, 0)) = (pc + 1, r, fr, wy, sh, ct, out, (0, -1, 0)) := by
    unfold doA
    dsimp only
    rw [ho]
    rfl
  rw [e] at hQ
  have hS1 := hS.pop
  obtain ⟨b, hB, hP, h105, h108, h119, hb, h123, h124, h126⟩ := hS
  have h108 : s.1 108 = nI (r.length + 1) := h108
  have e108 : s.1 108 - 1 = nI r.length := by rw [h108]; exact nI_pred r.length
  refine eX10_does hst ⟨inB_n o1, ?_⟩
  rw [nI_clamp (by omega), o2, ho]
  refine ⟨fun c => absurd c (by decide), fun _ => ⟨fun c => absurd c (by decide), fun _ => ⟨fun c => absurd c (by decide), fun _ => ⟨fun c => absurd c (by decide), fun _ => ⟨fun c => absurd c (by decide), fun _ => ⟨fun c => absurd c (by decide), fun _ => ⟨fun c => absurd c (by decide), fun _ => ⟨fun c => absurd c (by decide), fun _ => ⟨fun c => absurd c (by decide), fun _ => ⟨fun _ => ?_, fun c => absurd (by decide) c⟩⟩⟩⟩⟩⟩⟩⟩⟩⟩
  rw [e108]
  exact hQ _ (Or.inl ⟨rfl, hS1⟩)
theorem D_tries (hst : l.stackTraces = false) (hc : mCode P s0) (hg : aGood P fuel (pc, pl, fr, wy, sh, ct, out, (0, -1, 0))) (hS : mS fuel s0 (pc + 1) pl fr wy sh ct out s) (h127 : s.1 127 = (P.1 pc).2.2.2.2) (ho : (P.1 pc).1 = 23)
    (hQ : ∀ s', mRz fuel s0 (doA P fuel (pc, pl, fr, wy, sh, ct, out, (0, -1, 0))) s' → Q none s') : EvM l E w (d + 9) MX10_does [.ref w.1, .int (nI pc)] s Q := by
  obtain ⟨hpl, hfr, hfr1, hwy, hzw, hmd, -, hfit, -⟩ := hg
  have hpl : pl.length ≤ 8300 := hpl
  have hfr : fr.length ≤ 10 := hfr
  have hfr1 : 1 ≤ fr.length := hfr1
  have hwy : wy.length ≤ 390 := hwy
  have hmd : ct.2.1 ≤ 3000 := hmd
  have hfne : ¬ fr = [] := fun c => by rw [c] at hfr1; exact absurd hfr1 (by decide)
  have hop := hS.code hc hfit.1
  obtain ⟨o1, o2, o3, o4, o5, o6, o7, o8, o9, o10, o11, o12, o13, o14, o15⟩ := id hop
  have hneed := hfit.2.1
  have e : doA P fuel (pc, pl, fr, wy, sh, ct, out, (0, -1, 0)) = (pc + 1, pl, fr, (2, none, (P.1 pc).2.1, (P.1 pc).2.2.1, 0, pl.length, fr.length, (P.1 pc).2.2.2.2) :: wy, sh, ct, out, (0, -1, 0)) := by
    unfold doA
    dsimp only
    rw [ho]
    rfl
  rw [e] at hQ
  obtain ⟨b, hB, hP, h105, h108, h119, hb, h123, h124, h126⟩ := hS
  refine eX10_does hst ⟨inB_n o1, ?_⟩
  rw [nI_clamp (by omega), o2, ho]
  refine ⟨fun c => absurd c (by decide), fun _ => ⟨fun c => absurd c (by decide), fun _ => ⟨fun c => absurd c (by decide), fun _ => ⟨fun c => absurd c (by decide), fun _ => ⟨fun c => absurd c (by decide), fun _ => ⟨fun c => absurd c (by decide), fun _ => ⟨fun c => absurd c (by decide), fun _ => ⟨fun c => absurd c (by decide), fun _ => ⟨fun c => absurd c (by decide), fun _ => ⟨fun c => absurd c (by decide), fun _ => ⟨fun _ => ⟨inB_n o1, ?_⟩, fun c => absurd (by decide) c⟩⟩⟩⟩⟩⟩⟩⟩⟩⟩⟩
  rw [(o8 (by rw [ho]; decide)).1, h127, h108]
  refine M_way hst hB.2.2.2.1 (by omega) ⟨rfl, inB_n o1, ?_⟩
  have e1 : (mwy s wy.length 2 (nI (P.1 pc).2.1) (P.1 pc).2.2.2.2 (nI pl.length)).1 136 - 1 = nI wy.length := nI_pred wy.length
  have e2 : (mwy s wy.length 2 (nI (P.1 pc).2.1) (P.1 pc).2.2.2.2 (nI pl.length)).2.2.1 82 pc = nI (P.1 pc).2.2.1 := by
    rw [mwy_ne s _ _ _ _ _ (Or.inl (by decide))]
    exact (o10 (by rw [ho]; decide)).1
  rw [e1, e2, nI_clamp (by omega)]
  have hB2 := (hB.way (x1 := 2) (x2 := nI (P.1 pc).2.1) (x3 := (P.1 pc).2.2.2.2) (x4 := nI pl.length) (2, none, (P.1 pc).2.1, 0, 0, pl.length, fr.length, (P.1 pc).2.2.2.2) rfl (show 2 < 5 by decide) rfl rfl (fun _ => ⟨rfl, rfl, rfl⟩) (fun c => absurd rfl c)).setb (P.1 pc).2.2.1
  exact ⟨inB_n (by omega), hQ _ (Or.inl ⟨rfl, b, hB2, hP.way.setb, h105, h108, h119, hb, h123, h124, h126⟩)⟩
theorem D_tried (hst : l.stackTraces = false) (hc : mCode P s0) (hg : aGood P fuel (pc, pl, fr, wy, sh, ct, out, (0, -1, 0))) (hS : mS fuel s0 (pc + 1) pl fr wy sh ct out s) (h127 : s.1 127 = (P.1 pc).2.2.2.2) (ho : (P.1 pc).1 = 24)
    (hQ : ∀ s', mRz fuel s0 (doA P fuel (pc, pl, fr, wy, sh, ct, out, (0, -1, 0))) s' → Q none s') : EvM l E w (d + 9) MX10_does [.ref w.1, .int (nI pc)] s Q := by
  obtain ⟨hpl, hfr, hfr1, hwy, hzw, hmd, -, hfit, -⟩ := hg
  have hpl : pl.length ≤ 8300 := hpl
  have hfr : fr.length ≤ 10 := hfr
  have hfr1 : 1 ≤ fr.length := hfr1
  have hwy : wy.length ≤ 390 := hwy
  have hmd : ct.2.1 ≤ 3000 := hmd
  have hfne : ¬ fr = [] := fun c => by rw [c] at hfr1; exact absurd hfr1 (by decide)
  have hop := hS.code hc hfit.1
  obtain ⟨o1, o2, o3, o4, o5, o6, o7, o8, o9, o10, o11, o12, o13, o14, o15⟩ := id hop
  have hneed := hfit.2.1
  have e : doA P fuel (pc, pl, fr, wy, sh, ct, out, (0, -1, 0)) = ((P.1 pc).2.1, pl, fr, wy.tail, sh, ct, out, (0, -1, 0)) := by
    unfold doA
    dsimp only
    rw [ho]
    rfl
  rw [e] at hQ
  obtain ⟨q, r, rfl⟩ : ∃ q r, wy = q :: r := by
    have := hfit.2.2.2.2.1 ho
    cases wy with
    | nil => exact absurd this (by decide)
    | cons q r => exact ⟨q, r, rfl⟩
  obtain ⟨b, hB, hP, h105, h108, h119, hb, h123, h124, h126⟩ := hS
  have e136 : s.1 136 - 1 = nI r.length := by rw [hB.2.2.2.1]; exact nI_pred r.length
  refine eX10_does hst ⟨inB_n o1, ?_⟩
  rw [nI_clamp (by omega), o2, ho]
  refine ⟨fun c => absurd c (by decide), fun _ => ⟨fun c => absurd c (by decide), fun _ => ⟨fun c => absurd c (by decide), fun _ => ⟨fun c => absurd c (by decide), fun _ => ⟨fun c => absurd c (by decide), fun _ => ⟨fun c => absurd c (by decide), fun _ => ⟨fun c => absurd c (by decide), fun _ => ⟨fun c => absurd c (by decide), fun _ => ⟨fun c => absurd c (by decide), fun _ => ⟨fun c => absurd c (by decide), fun _ => ⟨fun c => absurd c (by decide), fun _ => ⟨fun _ => ⟨inB_n o1, ?_⟩, fun c => absurd (by decide) c⟩⟩⟩⟩⟩⟩⟩⟩⟩⟩⟩⟩
  rw [(o8 (by rw [ho]; decide)).1, e136]
  exact hQ _ (Or.inl ⟨rfl, b, (hB.wset r hB.2.2.1.2).si 126 _, (hP.si (j := 136) (v := nI r.length)).si, h105, h108, h119, hb, h123, h124, fun _ => rfl⟩)
theorem D_ask (hst : l.stackTraces = false) (hc : mCode P s0) (hg : aGood P fuel (pc, pl, fr, wy, sh, ct, out, (0, -1, 0))) (hS : mS fuel s0 (pc + 1) pl fr wy sh ct out s) (h127 : s.1 127 = (P.1 pc).2.2.2.2) (ho : (P.1 pc).1 = 14)
    (hQ : ∀ s', mRz fuel s0 (doA P fuel (pc, pl, fr, wy, sh, ct, out, (0, -1, 0))) s' → Q none s') : EvM l E w (d + 9) MX10_does [.ref w.1, .int (nI pc)] s Q := by
  obtain ⟨hpl, hfr, hfr1, hwy, hzw, hmd, -, hfit, -⟩ := hg
  have hpl : pl.length ≤ 8300 := hpl
  have hfr : fr.length ≤ 10 := hfr
  have hfr1 : 1 ≤ fr.length := hfr1
  have hwy : wy.length ≤ 390 := hwy
  have hmd : ct.2.1 ≤ 3000 := hmd
  have hfne : ¬ fr = [] := fun c => by rw [c] at hfr1; exact absurd hfr1 (by decide)
  have hop := hS.code hc hfit.1
  obtain ⟨o1, o2, o3, o4, o5, o6, o7, o8, o9, o10, o11, o12, o13, o14, o15⟩ := id hop
  have hneed := hfit.2.1
  obtain ⟨x, r, rfl⟩ : ∃ x r, pl = x :: r := by
    cases pl with
    | nil =>
      have e1 : aNeed (P.1 pc) = 1 := by
        unfold aNeed
        rw [ho]
        rfl
      rw [e1] at hneed
      exact absurd hneed (by show ¬ 1 ≤ 0; decide)
    | cons x r => exact ⟨x, r, rfl⟩
  have hpl : r.length + 1 ≤ 8300 := hpl
  have wx : ZW x := hzw x List.mem_cons_self
  have e : doA P fuel (pc, x :: r, fr, wy, sh, ct, out, (0, -1, 0)) = (if zk x ≠ 0 then (pc + 1, r, fr, wy, sh, ct, out, (3, (P.1 pc).2.2.2.2, 0)) else ((if zv x = 0 then (P.1 pc).2.1 else pc + 1), r, fr, wy, sh, ct, out, (0, -1, 0))) := by
    unfold doA
    dsimp only
    rw [ho]
    rfl
  rw [e] at hQ
  have hS1 := hS.pop
  obtain ⟨b, hB, hP, h105, h108, h119, hb, h123, h124, h126⟩ := hS
  have h108 : s.1 108 = nI (r.length + 1) := h108
  have e108 : s.1 108 - 1 = nI r.length := by rw [h108]; exact nI_pred r.length
  refine eX10_does hst ⟨inB_n o1, ?_⟩
  rw [nI_clamp (by omega), o2, ho]
  refine ⟨fun c => absurd c (by decide), fun _ => ⟨fun c => absurd c (by decide), fun _ => ⟨fun c => absurd c (by decide), fun _ => ⟨fun c => absurd c (by decide), fun _ => ⟨fun c => absurd c (by decide), fun _ => ⟨fun c => absurd c (by decide), fun _ => ⟨fun c => absurd c (by decide), fun _ => ⟨fun c => absurd c (by decide), fun _ => ⟨fun c => absurd c (by decide), fun _ => ⟨fun c => absurd c (by decide), fun _ => ⟨fun c => absurd c (by decide), fun _ => ⟨fun c => absurd c (by decide), fun _ => ?_⟩⟩⟩⟩⟩⟩⟩⟩⟩⟩⟩⟩
  rw [e108]
  have hQ := fun s' q => And.intro (rfl : (none : Option Value) = none) (hQ s' q)
  refine eX10_ofOne hst ⟨inB_n o1, fun y1 e1 => ?_⟩
  have e1 : y1 = 14 := by
    rw [e1, nI_clamp (by omega)]
    show s.2.2.1 80 pc = _
    rw [o2, ho]; rfl
  have e8 : (sI s 108 (nI r.length)).1 108 = nI r.length := rfl
  have e7 : (sI s 108 (nI r.length)).1 127 = (P.1 pc).2.2.2.2 := h127
  have e6 : ∀ j, (sI s 108 (nI r.length)).2.2.1 j = s.2.2.1 j := fun _ => rfl
  rw [e1, e8, e7, nI_clamp (by omega), e6, e6]
  clear e1
  have hv := hP.1
  refine ⟨fun _ => ⟨inB_n (by omega), ?_⟩, fun c => absurd rfl c⟩
  rw [hv.k0]
  refine ⟨fun c => ⟨fun c => absurd rfl c, fun _ => ⟨inB_n (by omega), ?_⟩⟩, fun c => M_trouble hst h123 ⟨rfl, hQ _ ?_⟩⟩
  · rw [if_neg (fun z => z c)] at hQ
    have hvx : s.2.2.1 107 r.length = zv x := by rw [zk0 c] at hv; exact (rmV.int hv).2
    rw [hvx]
    refine ⟨fun c0 => hQ _ ?_, fun c0 => ⟨inB_n o1, hQ _ ?_⟩⟩
    · rw [if_neg c0]; exact Or.inl ⟨rfl, hS1⟩
    · rw [if_pos c0, nI_clamp (by omega), e6, (o8 (by rw [ho]; decide)).1]; exact Or.inl ⟨rfl, hS1.jump⟩
  · rw [if_pos c]
    exact Or.inr (mS.tr (a := []) hS1 rfl (by decide) (by decide) (by decide))
theorem D_raises (hst : l.stackTraces = false) (hc : mCode P s0) (hg : aGood P fuel (pc, pl, fr, wy, sh, ct, out, (0, -1, 0))) (hS : mS fuel s0 (pc + 1) pl fr wy sh ct out s) (h127 : s.1 127 = (P.1 pc).2.2.2.2) (ho : (P.1 pc).1 = 21)
    (hQ : ∀ s', mRz fuel s0 (doA P fuel (pc, pl, fr, wy, sh, ct, out, (0, -1, 0))) s' → Q none s') : EvM l E w (d + 9) MX10_does [.ref w.1, .int (nI pc)] s Q := by
  obtain ⟨hpl, hfr, hfr1, hwy, hzw, hmd, -, hfit, -⟩ := hg
  have hpl : pl.length ≤ 8300 := hpl
  have hfr : fr.length ≤ 10 := hfr
  have hfr1 : 1 ≤ fr.length := hfr1
  have hwy : wy.length ≤ 390 := hwy
  have hmd : ct.2.1 ≤ 3000 := hmd
  have hfne : ¬ fr = [] := fun c => by rw [c] at hfr1; exact absurd hfr1 (by decide)
  have hop := hS.code hc hfit.1
  obtain ⟨o1, o2, o3, o4, o5, o6, o7, o8, o9, o10, o11, o12, o13, o14, o15⟩ := id hop
  have hneed := hfit.2.1
  obtain ⟨x, r, rfl⟩ : ∃ x r, pl = x :: r := by
    cases pl with
    | nil =>
      have e1 : aNeed (P.1 pc) = 1 := by
        unfold aNeed
        rw [ho]
        rfl
      rw [e1] at hneed
      exact absurd hneed (by show ¬ 1 ≤ 0; decide)
    | cons x r => exact ⟨x, r, rfl⟩
  have hpl : r.length + 1 ≤ 8300 := hpl
  have wx : ZW x := hzw x List.mem_cons_self
  have e : doA P fuel (pc, x :: r, fr, wy, sh, ct, out, (0, -1, 0)) = (pc + 1, r, fr, wy, sh, ct, out, (if zk x ≠ 0 then (3, (P.1 pc).2.2.2.2, 0) else (9, (P.1 pc).2.2.2.2, zv x))) := by
    unfold doA
    dsimp only
    rw [ho]
    rfl
  rw [e] at hQ
  have hS1 := hS.pop
  obtain ⟨b, hB, hP, h105, h108, h119, hb, h123, h124, h126⟩ := hS
  have h108 : s.1 108 = nI (r.length + 1) := h108
  have e108 : s.1 108 - 1 = nI r.length := by rw [h108]; exact nI_pred r.length
  refine eX10_does hst ⟨inB_n o1, ?_⟩
  rw [nI_clamp (by omega), o2, ho]
  refine ⟨fun c => absurd c (by decide), fun _ => ⟨fun c => absurd c (by decide), fun _ => ⟨fun c => absurd c (by decide), fun _ => ⟨fun c => absurd c (by decide), fun _ => ⟨fun c => absurd c (by decide), fun _ => ⟨fun c => absurd c (by decide), fun _ => ⟨fun c => absurd c (by decide), fun _ => ⟨fun c => absurd c (by decide), fun _ => ⟨fun c => absurd c (by decide), fun _ => ⟨fun c => absurd c (by decide), fun _ => ⟨fun c => absurd c (by decide), fun _ => ⟨fun c => absurd c (by decide), fun _ => ?_⟩⟩⟩⟩⟩⟩⟩⟩⟩⟩⟩⟩
  rw [e108]
  have hQ := fun s' q => And.intro (rfl : (none : Option Value) = none) (hQ s' q)
  refine eX10_ofOne hst ⟨inB_n o1, fun y1 e1 => ?_⟩
  have e1 : y1 = 21 := by
    rw [e1, nI_clamp (by omega)]
    show s.2.2.1 80 pc = _
    rw [o2, ho]; rfl
  have e8 : (sI s 108 (nI r.length)).1 108 = nI r.length := rfl
  have e7 : (sI s 108 (nI r.length)).1 127 = (P.1 pc).2.2.2.2 := h127
  have e6 : ∀ j, (sI s 108 (nI r.length)).2.2.1 j = s.2.2.1 j := fun _ => rfl
  rw [e1, e8, e7, nI_clamp (by omega), e6, e6]
  clear e1
  have hv := hP.1
  refine ⟨fun c => absurd c (by decide), fun _ => ⟨fun c => absurd rfl c, fun _ => ⟨inB_n (by omega), ?_⟩⟩⟩
  rw [hv.k0]
  refine ⟨fun c => ⟨fun _ => ⟨inB_n (by omega), M_trouble hst h123 ⟨rfl, hQ _ ?_⟩⟩, fun c => absurd c (by decide)⟩, fun c => M_trouble hst h123 ⟨rfl, hQ _ ?_⟩⟩
  · have hvx : s.2.2.1 107 r.length = zv x := by rw [zk0 c] at hv; exact (rmV.int hv).2
    rw [if_neg (fun z => z c), hvx]
    exact Or.inr ⟨b, (((hB.si 108 (nI r.length)).si 122 (zv x)).si 123 9).si 124 _, (((hP.2.si (j := 108) (v := nI r.length)).si (j := 122) (v := zv x)).si (j := 123) (v := 9)).si, h105, h119, by omega, rfl, (show ¬ 9 = 0 by decide), (show 9 < 12 by decide), rfl, fun _ => rfl⟩
  · rw [if_pos c]
    exact Or.inr (mS.tr (a := []) hS1 rfl (by decide) (by decide) (by decide))
theorem D_forin (hst : l.stackTraces = false) (hc : mCode P s0) (hg : aGood P fuel (pc, pl, fr, wy, sh, ct, out, (0, -1, 0))) (hS : mS fuel s0 (pc + 1) pl fr wy sh ct out s) (h127 : s.1 127 = (P.1 pc).2.2.2.2) (ho : (P.1 pc).1 = 17)
    (hQ : ∀ s', mRz fuel s0 (doA P fuel (pc, pl, fr, wy, sh, ct, out, (0, -1, 0))) s' → Q none s') : EvM l E w (d + 9) MX10_does [.ref w.1, .int (nI pc)] s Q := by
  obtain ⟨hpl, hfr, hfr1, hwy, hzw, hmd, -, hfit, -⟩ := hg
  have hpl : pl.length ≤ 8300 := hpl
  have hfr : fr.length ≤ 10 := hfr
  have hfr1 : 1 ≤ fr.length := hfr1
  have hwy : wy.length ≤ 390 := hwy
  have hmd : ct.2.1 ≤ 3000 := hmd
  have hfne : ¬ fr = [] := fun c => by rw [c] at hfr1; exact absurd hfr1 (by decide)
  have hop := hS.code hc hfit.1
  obtain ⟨o1, o2, o3, o4, o5, o6, o7, o8, o9, o10, o11, o12, o13, o14, o15⟩ := id hop
  have hneed := hfit.2.1
  obtain ⟨x, r, rfl⟩ : ∃ x r, pl = x :: r := by
    cases pl with
    | nil =>
      have e1 : aNeed (P.1 pc) = 1 := by
        unfold aNeed
        rw [ho]
        rfl
      rw [e1] at hneed
      exact absurd hneed (by show ¬ 1 ≤ 0; decide)
    | cons x r => exact ⟨x, r, rfl⟩
  have hpl : r.length + 1 ≤ 8300 := hpl
  have wx : ZW x := hzw x List.mem_cons_self
  have e : doA P fuel (pc, x :: r, fr, wy, sh, ct, out, (0, -1, 0)) = (if zk x = 0 ∧ zv x < 0 then (pc + 1, r, fr, wy, sh, ct, out, (1, (P.1 pc).2.2.2.2, 0)) else (pc + 1, r, fr, (1, (if zk x = 0 then none else some x), 0, 0, (if zk x = 0 then (zv x).toNatClampNeg else zn x), 0, fr.length, 0) :: wy, sh, ct, out, (0, -1, 0))) := by
    unfold doA
    dsimp only
    rw [ho]
    rfl
  rw [e] at hQ
  have hS1 := hS.pop
  obtain ⟨b, hB, hP, h105, h108, h119, hb, h123, h124, h126⟩ := hS
  have h108 : s.1 108 = nI (r.length + 1) := h108
  have e108 : s.1 108 - 1 = nI r.length := by rw [h108]; exact nI_pred r.length
  refine eX10_does hst ⟨inB_n o1, ?_⟩
  rw [nI_clamp (by omega), o2, ho]
  refine ⟨fun c => absurd c (by decide), fun _ => ⟨fun c => absurd c (by decide), fun _ => ⟨fun c => absurd c (by decide), fun _ => ⟨fun c => absurd c (by decide), fun _ => ⟨fun c => absurd c (by decide), fun _ => ⟨fun c => absurd c (by decide), fun _ => ⟨fun c => absurd c (by decide), fun _ => ⟨fun c => absurd c (by decide), fun _ => ⟨fun c => absurd c (by decide), fun _ => ⟨fun c => absurd c (by decide), fun _ => ⟨fun c => absurd c (by decide), fun _ => ⟨fun c => absurd c (by decide), fun _ => ?_⟩⟩⟩⟩⟩⟩⟩⟩⟩⟩⟩⟩
  rw [e108]
  have hQ := fun s' q => And.intro (rfl : (none : Option Value) = none) (hQ s' q)
  refine eX10_ofOne hst ⟨inB_n o1, fun y1 e1 => ?_⟩
  have e1 : y1 = 17 := by
    rw [e1, nI_clamp (by omega)]
    show s.2.2.1 80 pc = _
    rw [o2, ho]; rfl
  have e8 : (sI s 108 (nI r.length)).1 108 = nI r.length := rfl
  have e7 : (sI s 108 (nI r.length)).1 127 = (P.1 pc).2.2.2.2 := h127
  have e6 : ∀ j, (sI s 108 (nI r.length)).2.2.1 j = s.2.2.1 j := fun _ => rfl
  rw [e1, e8, e7, nI_clamp (by omega), e6, e6]
  clear e1
  have hv := hP.1
  have hB1 := hB.si 108 (nI r.length)
  have hP1 := hP.2.si (j := 108) (v := nI r.length)
  refine ⟨fun c => absurd c (by decide), fun _ => ⟨fun _ => ⟨fun c => absurd rfl c, fun _ => ⟨inB_n (by omega), ?_⟩⟩, fun c => absurd c (by decide)⟩⟩
  rw [hv.k0]
  refine ⟨fun c => ⟨inB_n (by omega), fun _ => ⟨inB_n (by omega), inB_n (by omega), ?_⟩, fun z => absurd z c⟩, fun c => ⟨inB_n (by omega), ?_⟩⟩
  · obtain ⟨_, p, ep, hr⟩ := hv.thing c
    rw [if_neg (fun z => c z.1), if_neg c, if_neg c] at hQ
    have hh := rmT_head hr
    rw [ep]
    refine M_sizeAt hst (v := nI (zn x)) (by have := hB.em.1; omega) hh.2.2.1 ⟨_, rfl, ?_⟩
    refine M_way hst hB1.2.2.2.1 (by omega) ⟨rfl, hQ _ (Or.inl ⟨rfl, b, hB1.way (1, some x, 0, 0, zn x, 0, fr.length, 0) rfl (show 1 < 5 by decide) rfl rfl (fun z => absurd z (show ¬ 1 = 2 by decide)) (fun _ => ⟨⟨wx, p, rfl, hr⟩, rfl, fun z => absurd rfl z⟩), hP1.way, h105, rfl, h119, hb, h123, h124, h126⟩)⟩
  · have hvx : s.2.2.1 107 r.length = zv x := by rw [zk0 c] at hv; exact (rmV.int hv).2
    rw [hvx]
    by_cases c0 : zv x < 0
    · rw [if_pos ⟨c, c0⟩] at hQ
      refine ⟨fun z => absurd c0 (by rw [Int32.not_lt]; exact z), fun _ => M_trouble hst h123 ⟨rfl, hQ _ (Or.inr (mS.tr (a := []) hS1 rfl (by decide) (by decide) (by decide)))⟩⟩
    · rw [if_neg (fun z => c0 z.2), if_pos c, if_pos c] at hQ
      refine ⟨fun _ => ⟨inB_n (by omega), fun z => absurd c z, fun _ => ⟨inB_n (by omega), ?_⟩⟩, fun z => absurd (Int32.not_lt.mp c0) z⟩
      refine M_way hst hB1.2.2.2.1 (by omega) ⟨rfl, hQ _ (Or.inl ⟨rfl, b, hB1.way (1, none, 0, 0, (zv x).toNatClampNeg, 0, fr.length, 0) rfl (show 1 < 5 by decide) rfl rfl (fun z => absurd z (show ¬ 1 = 2 by decide)) (fun _ => ⟨rfl, (i32_nat c0).2, fun z => absurd rfl z⟩), hP1.way, h105, rfl, h119, hb, h123, h124, h126⟩)⟩
theorem mBz.outs {b st dp tk : Nat} {s' : MS} {out' : List Int32} (h : mBz fuel s0 b fr wy sh st dp tk out s) (hf : mfO s s') (ho : mOut s' out') : mBz fuel s0 b fr wy sh st dp tk out' s' := by
  obtain ⟨g1, g2, g3, g4, g5, g6, g7, g8, g9, g10⟩ := h
  have e4 := hf.2.2.2 104 (by decide)
  have hA : ∀ j, 128 ≤ j → j ≤ 142 → s'.2.2.1 j = s.2.2.1 j := fun j a1 a2 => hf.2.2.2 j (fun z => by have := (by decide : ∀ j ∈ [109, 110, 111, 143], j < 128 ∨ j = 143) j z; omega)
  refine ⟨mFrs.mono (s := s) (s' := s') (Nat.le_refl b) (fun a _ => by rw [e4]) fr (fun j hj i _ => by rw [hA j (by omega) (by omega)]) (fun j hj i _ => by rw [hA j (by omega) (by omega)]) g1, by rw [hf.1 130 (by decide)]; exact g2, mWys.mono (s := s) (s' := s') (Nat.le_refl b) (fun a _ => by rw [e4]) wy (fun j hj hj' i _ => by rw [hA j (by omega) (by omega)]) g3, by rw [hf.1 136 (by decide)]; exact g4, fun i hi => ?_, ?_, ?_, ho, ?_, g10.trans hf.R⟩
  · rw [hA 128 (by decide) (by decide), hA 129 (by decide) (by decide), e4]
    exact g5 i hi
  · rw [hf.1 117 (by decide), hf.1 118 (by decide)]; exact g6
  · rw [hf.1 120 (by decide), hf.1 121 (by decide)]; exact g7
  · exact ⟨g9.1, by rw [e4]; exact g9.2.1, by rw [e4]; exact g9.2.2⟩
theorem mPs.outs {b : Nat} {s' : MS} (h : mPs s b pl) (hf : mfO s s') : mPs s' b pl := mPs.mono (s := s) (s' := s') (Nat.le_refl b) (fun a _ => by rw [hf.2.2.2 104 (by decide)]) pl (fun i _ => ⟨by rw [hf.2.2.2 106 (by decide)], by rw [hf.2.2.2 107 (by decide)]⟩) h
theorem D_says (hst : l.stackTraces = false) (hc : mCode P s0) (hg : aGood P fuel (pc, pl, fr, wy, sh, ct, out, (0, -1, 0))) (hS : mS fuel s0 (pc + 1) pl fr wy sh ct out s) (h127 : s.1 127 = (P.1 pc).2.2.2.2) (ho : (P.1 pc).1 = 19)
    (hQ : ∀ s', mRz fuel s0 (doA P fuel (pc, pl, fr, wy, sh, ct, out, (0, -1, 0))) s' → Q none s') : EvM l E w (d + 9) MX10_does [.ref w.1, .int (nI pc)] s Q := by
  obtain ⟨hpl, hfr, hfr1, hwy, hzw, hmd, -, hfit, -⟩ := hg
  have hpl : pl.length ≤ 8300 := hpl
  have hfr : fr.length ≤ 10 := hfr
  have hfr1 : 1 ≤ fr.length := hfr1
  have hwy : wy.length ≤ 390 := hwy
  have hmd : ct.2.1 ≤ 3000 := hmd
  have hfne : ¬ fr = [] := fun c => by rw [c] at hfr1; exact absurd hfr1 (by decide)
  have hop := hS.code hc hfit.1
  obtain ⟨o1, o2, o3, o4, o5, o6, o7, o8, o9, o10, o11, o12, o13, o14, o15⟩ := id hop
  have hneed := hfit.2.1
  obtain ⟨x, r, rfl⟩ : ∃ x r, pl = x :: r := by
    cases pl with
    | nil =>
      have e1 : aNeed (P.1 pc) = 1 := by
        unfold aNeed
        rw [ho]
        rfl
      rw [e1] at hneed
      exact absurd hneed (by show ¬ 1 ≤ 0; decide)
    | cons x r => exact ⟨x, r, rfl⟩
  have hpl : r.length + 1 ≤ 8300 := hpl
  have wx : ZW x := hzw x List.mem_cons_self
  have e : doA P fuel (pc, x :: r, fr, wy, sh, ct, out, (0, -1, 0)) = (pc + 1, r, fr, wy, sh, ct, out ++ zform 0 x ++ [10], (0, -1, 0)) := by
    unfold doA
    dsimp only
    rw [ho]
    rfl
  rw [e] at hQ
  have hlen := hfit.2.2.2.2.2.2 ho
  have hlen : out.length + (zform 0 x).length + 1 < 2 ^ 31 := hlen
  obtain ⟨b, hB, hP, h105, h108, h119, hb, h123, h124, h126⟩ := hS
  have h108 : s.1 108 = nI (r.length + 1) := h108
  have e108 : s.1 108 - 1 = nI r.length := by rw [h108]; exact nI_pred r.length
  refine eX10_does hst ⟨inB_n o1, ?_⟩
  rw [nI_clamp (by omega), o2, ho]
  refine ⟨fun c => absurd c (by decide), fun _ => ⟨fun c => absurd c (by decide), fun _ => ⟨fun c => absurd c (by decide), fun _ => ⟨fun c => absurd c (by decide), fun _ => ⟨fun c => absurd c (by decide), fun _ => ⟨fun c => absurd c (by decide), fun _ => ⟨fun c => absurd c (by decide), fun _ => ⟨fun c => absurd c (by decide), fun _ => ⟨fun c => absurd c (by decide), fun _ => ⟨fun c => absurd c (by decide), fun _ => ⟨fun c => absurd c (by decide), fun _ => ⟨fun c => absurd c (by decide), fun _ => ?_⟩⟩⟩⟩⟩⟩⟩⟩⟩⟩⟩⟩
  rw [e108]
  have hQ := fun s' q => And.intro (rfl : (none : Option Value) = none) (hQ s' q)
  refine eX10_ofOne hst ⟨inB_n o1, fun y1 e1 => ?_⟩
  have e1 : y1 = 19 := by
    rw [e1, nI_clamp (by omega)]
    show s.2.2.1 80 pc = _
    rw [o2, ho]; rfl
  have e8 : (sI s 108 (nI r.length)).1 108 = nI r.length := rfl
  have e7 : (sI s 108 (nI r.length)).1 127 = (P.1 pc).2.2.2.2 := h127
  have e6 : ∀ j, (sI s 108 (nI r.length)).2.2.1 j = s.2.2.1 j := fun _ => rfl
  rw [e1, e8, e7, nI_clamp (by omega), e6, e6]
  clear e1
  have hv := hP.1
  have hB1 := hB.si 108 (nI r.length)
  have hP1 := hP.2.si (j := 108) (v := nI r.length)
  have hem := hB.em.1
  have hO : mOut (sI s 108 (nI r.length)) out := hB1.2.2.2.2.2.2.2.1
  have fin : ∀ s1, mfO (sI s 108 (nI r.length)) s1 → mOut s1 (out ++ zform 0 x) → EvM l E w (d + 7) MX10_says [.ref w.1, .int 10] s1 (fun r s' => r = none ∧ (none : Option Value) = none ∧ Q none s') := by
    intro s1 hf ho1
    refine M_says hst ho1 (by rw [List.length_append]; omega) (fun s2 q1 _ _ q4 => hQ _ (Or.inl ⟨rfl, b, (hB1.outs (out' := out ++ zform 0 x) hf ho1).outs q1 q4, (hP1.outs hf).outs q1, ?_, ?_, ?_, hb, ?_, ?_, fun c => ?_⟩))
    · rw [q1.1 105 (by decide), hf.1 105 (by decide)]; exact h105
    · rw [q1.1 108 (by decide), hf.1 108 (by decide)]; rfl
    · rw [q1.1 119 (by decide), hf.1 119 (by decide)]; exact h119
    · rw [q1.1 123 (by decide), hf.1 123 (by decide)]; exact h123
    · rw [q1.1 124 (by decide), hf.1 124 (by decide)]; exact h124
    · rw [q1.1 126 (by decide), hf.1 126 (by decide)]; exact h126 c
  refine ⟨fun c => absurd c (by decide), fun _ => ⟨fun _ => ⟨fun _ => ⟨fun c => absurd rfl c, fun _ => ⟨inB_n (by omega), ?_⟩⟩, fun c => absurd c (by decide)⟩, fun c => absurd c (by decide)⟩⟩
  rw [hv.k0]
  refine ⟨fun c => ⟨inB_n (by omega), ?_⟩, fun c => ⟨inB_n (by omega), ?_⟩⟩
  · obtain ⟨_, p, ep, hr⟩ := hv.thing c
    rw [ep]
    exact M_form hst (K := fun s1 => EvM l E w (d + 7) MX10_says [.ref w.1, .int 10] s1 (fun r s' => r = none ∧ (none : Option Value) = none ∧ Q none s')) (by rw [e6]; exact hr) wx (by omega) hO (by omega) (fun s1 q1 q2 => fin s1 q1 q2)
  · have hvx : s.2.2.1 107 r.length = zv x := by rw [zk0 c] at hv; exact (rmV.int hv).2
    rw [hvx]
    have ez : zform 0 x = znum (zv x) := by rw [zk0 c]; rfl
    rw [ez] at fin hlen
    exact M_number hst (K := fun s1 => EvM l E w (d + 7) MX10_says [.ref w.1, .int 10] s1 (fun r s' => r = none ∧ (none : Option Value) = none ∧ Q none s')) hO (by omega) (fun s1 q1 _ _ q4 => fin s1 q1 q4)
theorem D_gives (hst : l.stackTraces = false) (hc : mCode P s0) (hg : aGood P fuel (pc, pl, fr, wy, sh, ct, out, (0, -1, 0))) (hS : mS fuel s0 (pc + 1) pl fr wy sh ct out s) (h127 : s.1 127 = (P.1 pc).2.2.2.2) (ho : (P.1 pc).1 = 20)
    (hQ : ∀ s', mRz fuel s0 (doA P fuel (pc, pl, fr, wy, sh, ct, out, (0, -1, 0))) s' → Q none s') : EvM l E w (d + 9) MX10_does [.ref w.1, .int (nI pc)] s Q := by
  obtain ⟨hpl, hfr, hfr1, hwy, hzw, hmd, -, hfit, -⟩ := hg
  have hpl : pl.length ≤ 8300 := hpl
  have hfr : fr.length ≤ 10 := hfr
  have hfr1 : 1 ≤ fr.length := hfr1
  have hwy : wy.length ≤ 390 := hwy
  have hmd : ct.2.1 ≤ 3000 := hmd
  have hfne : ¬ fr = [] := fun c => by rw [c] at hfr1; exact absurd hfr1 (by decide)
  have hop := hS.code hc hfit.1
  obtain ⟨o1, o2, o3, o4, o5, o6, o7, o8, o9, o10, o11, o12, o13, o14, o15⟩ := id hop
  have hneed := hfit.2.1
  obtain ⟨x, r, rfl⟩ : ∃ x r, pl = x :: r := by
    cases pl with
    | nil =>
      have e1 : aNeed (P.1 pc) = 1 := by
        unfold aNeed
        rw [ho]
        rfl
      rw [e1] at hneed
      exact absurd hneed (by show ¬ 1 ≤ 0; decide)
    | cons x r => exact ⟨x, r, rfl⟩
  have hpl : r.length + 1 ≤ 8300 := hpl
  have wx : ZW x := hzw x List.mem_cons_self
  obtain ⟨q, fr', rfl⟩ : ∃ q r, fr = q :: r := by
    cases fr with
    | nil => exact absurd hfr1 (by show ¬ 1 ≤ 0; decide)
    | cons q r => exact ⟨q, r, rfl⟩
  obtain ⟨vr, base, back, ws⟩ := q
  have e : doA P fuel (pc, x :: r, (vr, base, back, ws) :: fr', wy, sh, ct, out, (0, -1, 0)) = (back, x :: (x :: r).drop ((x :: r).length - base), fr', wy.drop (wy.length - ws), sh, ct, out, (0, -1, 0)) := by
    unfold doA
    dsimp only
    rw [ho]
    rfl
  rw [e] at hQ
  obtain ⟨hba, hws⟩ : base + 1 ≤ (x :: r).length ∧ ws ≤ wy.length := hfit.2.2.2.2.2.1 ho
  obtain ⟨b, hB, hP, h105, h108, h119, hb, h123, h124, h126⟩ := hS
  have hfr : fr'.length + 1 ≤ 10 := hfr
  have hba : base + 1 ≤ r.length + 1 := hba
  have ef : s.1 130 - 1 = nI fr'.length := by rw [hB.2.1]; exact nI_pred fr'.length
  obtain ⟨k1, k2, k3, k4⟩ := hB.1.1
  have k1 : s.2.2.1 131 fr'.length = nI base := k1
  have k2 : s.2.2.1 133 fr'.length = nI ws := k2
  have k3 : ¬ fr'.length = 0 → s.2.2.1 132 fr'.length = nI back := k3
  have h108 : s.1 108 = nI (r.length + 1) := h108
  have e108 : s.1 108 - 1 = nI r.length := by rw [h108]; exact nI_pred r.length
  refine eX10_does hst ⟨inB_n o1, ?_⟩
  rw [nI_clamp (by omega), o2, ho]
  refine ⟨fun c => absurd c (by decide), fun _ => ⟨fun c => absurd c (by decide), fun _ => ⟨fun c => absurd c (by decide), fun _ => ⟨fun c => absurd c (by decide), fun _ => ⟨fun c => absurd c (by decide), fun _ => ⟨fun c => absurd c (by decide), fun _ => ⟨fun c => absurd c (by decide), fun _ => ⟨fun c => absurd c (by decide), fun _ => ⟨fun c => absurd c (by decide), fun _ => ⟨fun c => absurd c (by decide), fun _ => ⟨fun c => absurd c (by decide), fun _ => ⟨fun c => absurd c (by decide), fun _ => ?_⟩⟩⟩⟩⟩⟩⟩⟩⟩⟩⟩⟩
  rw [e108]
  have hQ := fun s' q => And.intro (rfl : (none : Option Value) = none) (hQ s' q)
  refine eX10_ofOne hst ⟨inB_n o1, fun y1 e1 => ?_⟩
  have e1 : y1 = 20 := by
    rw [e1, nI_clamp (by omega)]
    show s.2.2.1 80 pc = _
    rw [o2, ho]; rfl
  have e8 : (sI s 108 (nI r.length)).1 108 = nI r.length := rfl
  have e7 : (sI s 108 (nI r.length)).1 127 = (P.1 pc).2.2.2.2 := h127
  have e6 : ∀ j, (sI s 108 (nI r.length)).2.2.1 j = s.2.2.1 j := fun _ => rfl
  rw [e1, e8, e7, nI_clamp (by omega), e6, e6]
  clear e1
  have hv := hP.1
  have e3 : (sI s 108 (nI r.length)).1 130 - 1 = nI fr'.length := ef
  have e31 : (sI s 108 (nI r.length)).2.2.1 131 fr'.length = nI base := k1
  have e33 : (sI s 108 (nI r.length)).2.2.1 133 fr'.length = nI ws := k2
  have e32 : (sI s 108 (nI r.length)).2.2.1 132 fr'.length = s.2.2.1 132 fr'.length := rfl
  rw [e3, show (nI fr'.length).toNatClampNeg = fr'.length from nI_clamp (by omega), e31, e33, e32]
  refine ⟨fun c => absurd c (by decide), fun _ => ⟨fun _ => ⟨fun _ => ⟨fun _ => ⟨inB_n (by omega), fun y4 e4 => ⟨inB_n (by omega), fun y5 e5 => ⟨inB_n (by omega), inB_n (by omega), inB_n (by omega), ?_⟩⟩⟩, fun c => absurd c (by decide)⟩, fun c => absurd c (by decide)⟩, fun c => absurd c (by decide)⟩⟩
  subst e4 e5
  have hd1 : ((x :: r).drop ((x :: r).length - base)).length = base := by
    rw [List.length_drop]
    show r.length + 1 - (r.length + 1 - base) = base
    omega
  have hB1 := (((((hB.si 108 (nI r.length)).fdrop fr'.length (by show fr'.length ≤ fr'.length + 1; omega)).wdrop ws hws).si 108 (nI base)).si 126 (s.2.2.1 132 fr'.length))
  have efd : (((vr, base, back, ws) :: fr') : List Fm).drop (((vr, base, back, ws) :: fr').length - fr'.length) = fr' := by
    show (((vr, base, back, ws) :: fr') : List Fm).drop (fr'.length + 1 - fr'.length) = fr'
    rw [show fr'.length + 1 - fr'.length = 1 by omega]
    rfl
  rw [efd] at hB1
  have hP1 := ((((((mPs.drop ((x :: r).length - base) _ hP).si (j := 108) (v := nI r.length)).si (j := 130) (v := nI fr'.length)).si (j := 136) (v := nI ws)).si (j := 108) (v := nI base)).si (j := 126) (v := s.2.2.1 132 fr'.length))
  have hP2 := hP1.pu (k := s.2.2.1 106 r.length) (v := s.2.2.1 107 r.length) (t := x) hv
  rw [hd1] at hP2
  refine M_push hst (n := base) rfl (by omega) ⟨rfl, hQ _ (Or.inl ⟨rfl, b, hB1.pu base _ _, hP2, h105, ?_, h119, hb, h123, h124, fun c => ?_⟩)⟩
  · show nI (base + 1) = nI (((x :: r).drop ((x :: r).length - base)).length + 1)
    rw [hd1]
  · show s.2.2.1 132 fr'.length = nI back
    exact k3 (fun z => c (List.length_eq_zero_iff.mp z))
end MD
