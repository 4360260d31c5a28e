/-! THE READER'S FUNCTIONS: function(), its head -/
section FE6
variable {l : Launch} {E : EN} {w : CO} {wm : MO} {dt d : Nat} {ch : Nat → Nat} {n hf p x0 fa L K0 c ca cap : Nat} {vs : List Nat} {O : Nat → Od} {A : List (Nat × Nat × Nat)} {B : List Tok} {C : List CE} {s : CS} {f : RH} {Q : KO → CS → RH → Prop} {Fn : List FE} {DL EL : Nat → Nat}
theorem newA_tg (f : RH) (t m : Nat) : tg (fnewA f t m) f.1 = some (.inr t) ∧ ln (fnewA f t m) f.1 = m := by
  obtain ⟨a, b, -⟩ := cellv (cell_push f (.inr t, m, fun _ => defaultValue (AT t)) m)
  exact ⟨a, b⟩
set_option maxHeartbeats 8000000 in
theorem R_fn (hst : l.stackTraces = false) (h : rdS E w ch n hf x0 fa L K0 p ca cap c O A C Fn DL EL s f) (z0 : kw (tk ch n p) = 0) (hd : 260 ≤ d)
    (hok : ∀ s' f', rdOk l E w wm dt ch n hf x0 fa L K0 p vs c O C Fn s s' f' → Q (.inl none) s' f') (hbad : ∀ s' f', rdBad l E wm dt ch n hf K0 p vs c O C Fn s s' f' → Q (.inr 1) s' f') : EvC l E w d MX11_function [.ref x0] s f Q := by
  obtain ⟨d, rfl⟩ : ∃ d', d = d' + 9 + 1 := ⟨d - 10, by omega⟩
  obtain ⟨⟨a1, a2, a3⟩, ⟨r1, r4⟩, ⟨b1, b2, b3, ⟨b4, b5, b6⟩, b7, b8, b9, b10⟩, hE, hL, ⟨n1, n2, n3⟩, n4, n5⟩ := id h
  have ht := a1.tk
  obtain ⟨t, et⟩ : ∃ t, tk ch n p = t := ⟨_, rfl⟩
  rw [et] at z0 ht
  have zk : t.1 = 1 := by
    by_cases q1 : t.1 = 1
    · exact q1
    · have : kw t = 41 := if_neg q1
      omega
  have hp1 : p < t.2.2.2 := by have := ht.1.2.1; have := ht.2.2.2.2 (by omega); omega
  have hpn := ht.1.2.2.2.2
  have hAC : A.length = C.length := by have := hL.2.1.length_eq; rw [List.length_map] at this; exact this
  have hcap : cap ≤ 8000 := r4.2.2.2.2.2.2.1.2.2.2
  have hcap2 : cap ≤ 16 + 4 * A.length := r4.2.2.2.2.2.2.1.2.2.1
  have hroom : f.2.1 + 4000 ≤ K0 := by omega
  have hFb := fnm_lt (Fn := Fn) (fun k hk => (hE k hk).2.2.2.2.1)
  have hFb' : ∀ u ∈ fnm Fn, u < 2 ^ 50 := fun u hu => Nat.lt_of_lt_of_le (hFb u hu) (by decide)
  have hc : c < 3900 := by omega
  obtain ⟨t1, et1⟩ : ∃ t1, tk ch n t.2.2.2 = t1 := ⟨_, rfl⟩
  obtain ⟨t2, et2⟩ : ∃ t2, tk ch n t1.2.2.2 = t2 := ⟨_, rfl⟩
  have bad := fun {k pl : Nat} {s' : CS} {f' : RH} (hF : cFl s s' k pl) (hk : 1 ≤ k ∧ k ≤ 6) (hb : f'.2.1 ≤ f.2.1 + 4000) H => hbad s' f' ⟨k, pl, hF, by omega, hk, fun s00 => Fn_bad (k := k) (pl := pl) (vs := vs) (wm := wm) (dt := dt) (hf := hf) (s00 := s00) (O := O) (B := C.map toB) (E := E) hst hc hFb' et et1 et2 z0 zk H⟩
  refine eR11_function hst ⟨r1.1, r1.2.1, C_nextS hst a1 a2.1 (fun s' y4 hF => ?_) (fun s1 hcf1 hs1 => ⟨rfl, r1.1, ?_⟩)⟩
  · rw [et, et1] at y4 hF
    exact bad hF (by decide) (by omega) (Or.inl ⟨fun z => by omega, (if_pos y4).symm, rfl⟩)
  rw [et] at hs1
  have ht1 := hs1.tk
  rw [et1] at ht1
  refine R_wantName hst hs1 a2 r1.1 r1.2.1 (fun y s' hF => ?_) (fun y1 y2 => ⟨rfl, r1.1, _, b8, bn_eq Fn.length 12 (fun y3 => ⟨by unfold rmF; show f.2.1 + 1 + 6 ≤ BM; omega, fun N f1 eN e1 => ?_⟩) (fun y3 => ⟨r1.1, r1.2.1, r1.1, r1.2.1, eX2_wrong hst ⟨rfl, ?_⟩⟩) rfl rfl⟩)
  · rw [et1] at y hF
    have hw : wk t1 = 2 := if_neg (by have := hs1.2.1.2.2; rw [et1] at this; exact this)
    exact bad ⟨hcf1.trans hF.1, hF.2⟩ (by decide) (by omega) (Or.inl ⟨y, hw.symm, rfl⟩)
  rotate_left
  · rw [et1] at y1 y2
    have : cFl s1 (uI (uI s1 14 (nI 3)) 15 (s1.1 21)) 3 t1.2.1 := ⟨(cfP.uI _ 14 _).trans (cfP.uI _ 15 _), rfl, by have := hs1.2.1.1.2.1; rw [et1] at this; exact this⟩
    exact bad ⟨hcf1.trans this.1, this.2⟩ (by decide) (by omega) (Or.inr (Or.inl ⟨y1, y2, y3, rfl, rfl⟩))
  have nam : ∀ {f' : RH} {Q' : KO → CS → RH → Prop}, Q' (.inl (some (.long (lN (cv t1.2.2.1))))) s1 f' → EvC l E w (d + 9) MX2_name [.ref (w.1 2)] s1 f' Q' := fun hQ => C_name hst hs1.1 hs1.2.1.1 hs1.2.1.2.1 y1 (by rw [et1]; exact hQ)
  have h21 : s1.1 21 = nI t1.2.1 := by have := hs1.2.1.1.2.1; rw [et1] at this; exact this
  have w4 : t1.2.2.1 < 27 ^ 8 := by
    have := (tk_word (ch := ch) (n := n) (k := t.2.2.2) y1).2.2.2
    rw [et1] at this; exact this
  rw [et1] at y1 y2
  subst eN
  have hM : Fn.length < 12 := by omega
  have z1 : f1.1 = f.1 + 1 ∧ f1.2.1 = f.2.1 + 7 := by rw [e1]; exact ⟨rfl, rfl⟩
  have G1 : gZ [] f f1 := by rw [e1]; exact (gE.new _ _).z
  have o1 : oc f1 f.1 12 := by rw [e1]; exact oc_new _ _
  have d1 : ∀ j, vl f1 f.1 j = defaultValue (FY j) := fun j => by rw [e1]; exact vl_new _ _ _
  refine eX12_init hst ⟨by decide, by unfold rmF; show f1.2.1 + 1 + 14 ≤ BM; omega, fun na f2 ena e2 => ?_⟩
  have e2' : f2 = fnewA f1 1 14 := e2
  have z2 : f2.1 = f.1 + 2 ∧ f2.2.1 = f.2.1 + 22 := by rw [e2']; exact ⟨congrArg (· + 1) z1.1, by show f1.2.1 + 15 = _; omega⟩
  have G2 : gZ [] f1 f2 := by rw [e2']; exact (gE.newA _ _ _).z
  have ta2 : tg f2 na = some (.inr 1) ∧ ln f2 na = 14 := by rw [e2', ena]; exact newA_tg _ _ _
  have hna : na = f.1 + 1 := by omega
  have c2N : f2.2.2.1 f.1 = f1.2.2.1 f.1 := G2.ce (by omega) List.not_mem_nil
  have o2 : oc f2 f.1 12 := ocE c2N o1
  have cb2 : f2.2.2.2 = f.2.2.2 := G2.2.1.trans G1.2.1
  have hx := r1.2.2.1
  have hfal : fa < f.1 := by omega
  have c2x : f2.2.2.1 x0 = f.2.2.1 x0 := (G2.ce (by omega) List.not_mem_nil).trans (G1.ce hx List.not_mem_nil)
  refine ⟨o2, by rw [cb2]; exact a3, fun f3 e3 => ⟨rfl, ?_⟩⟩
  have c3x : f3.2.2.1 x0 = f2.2.2.1 x0 := by rw [e3]; exact set_cell (by omega)
  have o3x : oc f3 x0 11 := ocE c3x (ocE c2x r1.1)
  have cb3 : f3.2.2.2 = f.2.2.2 := by rw [e3]; exact cb2
  have o3 : oc f3 f.1 12 := by rw [e3]; exact set_oc o2
  refine ⟨o3x, by rw [cb3]; exact r1.2.2.2, fun f4 e4 => ?_⟩
  have o4x : oc f4 x0 11 := by rw [e4]; exact set_oc o3x
  have v4 : vl f4 x0 150 = .ref f.1 := by rw [e4]; exact set_vl o3x.1
  have n4x : ∀ j, ¬ j = 150 → vl f4 x0 j = vl f x0 j := fun j hj => by rw [e4]; exact (set_vn o3x.1 hj).trans (by rw [(cellE c3x).2.2, (cellE c2x).2.2])
  have c4N : f4.2.2.1 f.1 = f3.2.2.1 f.1 := by rw [e4]; exact set_cell (by omega)
  have o4 : oc f4 f.1 12 := ocE c4N o3
  have cb4 : f4.2.2.2 = f.2.2.2 := by rw [e4]; exact cb3
  refine ⟨o4x, f.1, v4, o4x, (n4x 147 (by decide)).trans r1.2.1, nam ⟨_, rfl, o4, by rw [cb4]; exact a3, fun f5 e5 => ?_⟩⟩
  have c5x : f5.2.2.1 x0 = f4.2.2.1 x0 := by rw [e5]; exact set_cell (by omega)
  have o5 : oc f5 f.1 12 := by rw [e5]; exact set_oc o4
  have cb5 : f5.2.2.2 = f.2.2.2 := by rw [e5]; exact cb4
  have v5 : vl f5 x0 = vl f4 x0 := (cellE c5x).2.2
  refine ⟨ocE c5x o4x, f.1, by rw [v5]; exact v4, ocE c5x o4x, by rw [v5]; exact (n4x 147 (by decide)).trans r1.2.1, o5, by rw [cb5]; exact a3, fun f6 e6 => ?_⟩
  have c6x : f6.2.2.1 x0 = f5.2.2.1 x0 := by rw [e6]; exact set_cell (by omega)
  have o6 : oc f6 f.1 12 := by rw [e6]; exact set_oc o5
  have cb6 : f6.2.2.2 = f.2.2.2 := by rw [e6]; exact cb5
  have v6 : vl f6 x0 = vl f4 x0 := ((cellE c6x).2.2).trans v5
  have o6x : oc f6 x0 11 := ocE c6x (ocE c5x o4x)
  have s6 : vl f6 f.1 153 = .long (lN (cv t1.2.2.1)) := by
    rw [e6]; refine (set_vn o5.1 (by decide)).trans ?_
    rw [e5]; exact set_vl o4.1
  have m6 : ∀ j, ¬ j = 154 → ¬ j = 153 → ¬ j = 157 → vl f6 f.1 j = defaultValue (FY j) := by
    intro j j1 j2 j3
    rw [e6]; refine (set_vn o5.1 j1).trans ?_
    rw [e5]; refine (set_vn o4.1 j2).trans ?_
    rw [(cellE c4N).2.2, e3]; refine (set_vn o2.1 j3).trans ?_
    rw [(cellE c2N).2.2]; exact d1 j
  have w6 : vl f6 f.1 157 = .ref na := by
    rw [e6]; refine (set_vn o5.1 (by decide)).trans ?_
    rw [e5]; refine (set_vn o4.1 (by decide)).trans ?_
    rw [(cellE c4N).2.2, e3]; exact set_vl o2.1
  have G02 : gZ [] f f2 := G1.trans G2 (fun a ha => absurd ha List.not_mem_nil)
  have G06 : gZ [x0] f f6 := by
    have q3 : gZ [f.1] f2 f3 := by rw [e3]; exact gZ.set _ _ _
    have q4 : gZ [x0] f3 f4 := by rw [e4]; exact gZ.set _ _ _
    have q5 : gZ [f.1] f4 f5 := by rw [e5]; exact gZ.set _ _ _
    have q6 : gZ [f.1] f5 f6 := by rw [e6]; exact gZ.set _ _ _
    have own : ∀ a, a ∈ [f.1] → a ∈ [x0] ∨ f.1 ≤ a := fun a ha => Or.inr (by rw [List.mem_singleton.mp ha]; exact Nat.le_refl _)
    exact ((((G02.mono (D' := [x0]) (fun a ha => absurd ha List.not_mem_nil)).trans q3 own).trans q4 (fun a ha => Or.inl ha)).trans q5 own).trans q6 own
  have z6 : f6.1 = f.1 + 2 ∧ f6.2.1 = f.2.1 + 22 := by rw [e6, e5, e4, e3]; exact z2
  have c6a : f6.2.2.1 na = f2.2.2.1 na := by
    rw [e6]; refine (set_cell (by omega)).trans ?_
    rw [e5]; refine (set_cell (by omega)).trans ?_
    rw [e4]; refine (set_cell (by omega)).trans ?_
    rw [e3]; exact set_cell (by omega)
  have hxfa : ¬ fa = x0 := fun z => by rw [z, r1.1.1] at b2; cases b2
  have c6f : f6.2.2.1 fa = f.2.2.1 fa := G06.ce hfal (fun z => hxfa (List.mem_singleton.mp z))
  have t6f : tg f6 fa = some (.inr 7) := ((cellE c6f).1).trans b2
  have l6f : ln f6 fa = 12 := ((cellE c6f).2.1).trans b3
  have x149 : vl f6 x0 149 = .int (nI Fn.length) := by rw [v6, n4x _ (by decide)]; exact b8
  have x148 : vl f6 x0 148 = .ref fa := by rw [v6, n4x _ (by decide)]; exact b1
  have x147 : vl f6 x0 147 = .ref (w.1 2) := by rw [v6, n4x _ (by decide)]; exact r1.2.1
  have x150 : vl f6 x0 150 = .ref f.1 := by rw [v6]; exact v4
  have hkc6 : cKc E f6 := a2.geZ G06 (fun a ha => by rw [List.mem_singleton.mp ha]; exact r1.2.2.2) a3
  refine ⟨o6x, f.1, x150, o6, _, s6, R_isShelf hst w4 ⟨_, rfl, ?_⟩⟩
  have fin : ∀ b : Bool, (b = true ↔ dupN (fnm Fn) t1.2.2.1) → ExC l E w (d + 9 + 1) MX11_function 88 [some (.ref x0), some (.int (bI b)), some (.int (nI Fn.length))] [] s1 f6 Q := by
    intro b hb
    refine vR11_function_88 ⟨o6x, _, x149, pk_le Fn.length Fn.length (fun _ => ?_) (fun z => absurd z (by clear hb; omega)) rfl rfl (by clear hb; omega) (by clear hb; omega)⟩
    cases b with
    | true =>
      refine ⟨fun z => absurd z (by decide), fun _ => ⟨o6x, x147, o6x, x147, eX2_wrong hst ⟨rfl, ?_⟩⟩⟩
      have : cFl s1 (uI (uI s1 14 (nI 4)) 15 (s1.1 21)) 4 t1.2.1 := ⟨(cfP.uI _ 14 _).trans (cfP.uI _ 15 _), rfl, h21⟩
      exact bad ⟨hcf1.trans this.1, this.2⟩ (by decide) (by omega) (Or.inr (Or.inr (Or.inl ⟨y1, y2, hM, hb.mp rfl, rfl, rfl⟩)))
    | false =>
      have hnd : ¬ dupN (fnm Fn) t1.2.2.1 := fun z => absurd (hb.mpr z) (by decide)
      clear hb
      refine ⟨fun _ => ⟨o6x, fa, x148, o6x, _, x149, o6x, f.1, x150, 12, t6f, o6.1, by decide, by rw [l6f]; exact inB_n hM, by rw [cb6]; exact b7, fun f7 e7 => ?_⟩, fun z => absurd rfl z⟩
      rw [nI_clamp (by omega)] at e7
      have c7x : f7.2.2.1 x0 = f6.2.2.1 x0 := by rw [e7]; exact set_cell (fun z => hxfa z.symm)
      have cb7 : f7.2.2.2 = f.2.2.2 := by rw [e7]; exact cb6
      have v7 : vl f7 x0 = vl f6 x0 := (cellE c7x).2.2
      have o7x := ocE c7x o6x
      refine ⟨o7x, _, by rw [v7]; exact x149, o7x, by rw [cb7]; exact r1.2.2.2, fun f8 e8 => ?_⟩
      rw [← nI_succ] at e8
      have o8x : oc f8 x0 11 := by rw [e8]; exact set_oc o7x
      have cb8 : f8.2.2.2 = f.2.2.2 := by rw [e8]; exact cb7
      have n8x : ∀ j, ¬ j = 149 → vl f8 x0 j = vl f6 x0 j := fun j hj => by rw [e8]; exact (set_vn o7x.1 hj).trans (by rw [v7])
      have n8f : ∀ j, ¬ j = 149 → ¬ j = 150 → vl f8 x0 j = vl f x0 j := fun j h1 h2 => by rw [n8x j h1, v6, n4x j h2]
      have G68 : gZ [x0, fa] f6 f8 := by
        have q7 : gZ [fa] f6 f7 := by rw [e7]; exact gZ.set _ _ _
        have q8 : gZ [x0] f7 f8 := by rw [e8]; exact gZ.set _ _ _
        exact (q7.mono (D' := [x0, fa]) (fun a ha => Or.inl (by rw [List.mem_singleton.mp ha]; simp))).trans q8 (fun a ha => Or.inl (by rw [List.mem_singleton.mp ha]; simp))
      have G08 : gZ [x0, fa] f f8 := (G06.mono (D' := [x0, fa]) (fun a ha => Or.inl (by rw [List.mem_singleton.mp ha]; simp))).trans G68 (fun a ha => Or.inl ha)
      have z8 : f8.1 = f.1 + 2 ∧ f8.2.1 = f.2.1 + 22 := by rw [e8, e7]; exact z6
      have c8N : f8.2.2.1 f.1 = f6.2.2.1 f.1 := G68.ce (by omega) (fun z => by simp only [List.mem_cons, List.not_mem_nil, or_false] at z; omega)
      have c8a : f8.2.2.1 na = f2.2.2.1 na := (G68.ce (by omega) (fun z => by simp only [List.mem_cons, List.not_mem_nil, or_false] at z; omega)).trans c6a
      have v8N : vl f8 f.1 = vl f6 f.1 := (cellE c8N).2.2
      have hca := r4.2.2.1
      have c8c : f8.2.2.1 ca = f.2.2.1 ca := G08.ce hca (fun z => by
        simp only [List.mem_cons, List.not_mem_nil, or_false] at z
        have tca := r4.2.1
        rcases z with z | z
        · rw [z, r1.1.1] at tca; cases tca
        · rw [z, b2] at tca; cases tca)
      have rd8 : rdR w f8 x0 f.1 na ca cap [] A := by
        refine ⟨⟨o8x, (n8f 147 (by decide) (by decide)).trans r1.2.1, by omega, by rw [cb8]; exact r1.2.2.2⟩, ⟨(n8x 150 (by decide)).trans x150, ocE c8N o6, by omega, by rw [cb8]; exact a3, by rw [v8N]; exact m6 156 (by decide) (by decide) (by decide), by rw [v8N]; exact w6⟩, ⟨by rw [(cellE c8a).1]; exact ta2.1, by rw [(cellE c8a).2.1]; exact ta2.2, by omega, by rw [cb8]; omega, Nat.zero_le _, fun v hv => absurd hv List.not_mem_nil, fun k hk => absurd hk (Nat.not_lt_zero _)⟩, ?_⟩
        obtain ⟨m1, m2, m3, m4, m5, m6, m7, m8⟩ := r4
        refine ⟨(n8f 151 (by decide) (by decide)).trans m1, by rw [(cellE c8c).1]; exact m2, by omega, by rw [cb8]; exact m4, by rw [(cellE c8c).2.1]; exact m5, (n8f 152 (by decide) (by decide)).trans m6, m7, fun k hk => ?_⟩
        obtain ⟨q1, q2, q3⟩ := m8 k hk
        exact ⟨by rw [(cellE c8c).2.2]; exact q1, G08.oc q2 q3, by omega⟩
      have s8 : vl f8 f.1 153 = .long (lN (cv t1.2.2.1)) := by rw [v8N]; exact s6
      have s154 : vl f8 f.1 154 = .int (nI t1.2.1) := by
        rw [v8N, e6, ← h21]; exact set_vl o5.1
      have p8 : vl f8 f.1 155 = .int (nI 0) := by rw [v8N]; exact m6 155 (by decide) (by decide) (by decide)
      have c8f : f8.2.2.1 fa = f7.2.2.1 fa := by rw [e8]; exact set_cell hxfa
      have hfa8 : ∀ k, ¬ k = Fn.length → vl f8 fa k = vl f fa k := fun k hk => by
        rw [(cellE c8f).2.2, e7]; exact (set_vn t6f hk).trans (by rw [(cellE c6f).2.2])
      have hfn8 : vl f8 fa Fn.length = .ref f.1 := by
        rw [(cellE c8f).2.2, e7]; exact set_vl t6f
      have hx148 : vl f8 x0 148 = .ref fa := (n8x 148 (by decide)).trans x148
      have hx149 : vl f8 x0 149 = .int (nI (Fn.length + 1)) := by rw [e8]; exact set_vl o7x.1
      have hkc8 : cKc E f8 := a2.geZ G08 (fun a ha => by
        simp only [List.mem_cons, List.not_mem_nil, or_false] at ha
        rcases ha with rfl | rfl
        · exact r1.2.2.2
        · exact b7) a3
      have hp2 : t.2.2.2 < t1.2.2.2 := by have := ht1.1.2.1; have := ht1.2.2.2.2 (by omega); omega
      refine ⟨o8x, (n8f 147 (by decide) (by decide)).trans r1.2.1, C_nextS hst hs1 hkc8.1 (fun s' y4 hF => ?_) (fun s2 hcf2 hs2 => ⟨rfl, o8x, (n8f 147 (by decide) (by decide)).trans r1.2.1, ?_⟩)⟩
      · rw [et1, et2] at y4 hF
        exact bad ⟨hcf1.trans hF.1, hF.2⟩ (by decide) (by omega) (Or.inr (Or.inr (Or.inr ⟨y1, y2, hM, hnd, fun z => by omega, (if_pos y4).symm, rfl⟩)))
      rw [et1] at hs2
      have ht2 := hs2.tk
      rw [et2] at ht2
      have hw2 : wk t2 = 2 := if_neg (by have := hs2.2.1.2.2; rw [et2] at this; exact this)
      have badP := fun {k pl : Nat} {s' : CS} {f' : RH} (z5 : t2.1 = 3) (z6 : t2.2.2.1 = 40) (hF : cFl s s' k pl) (hk : 1 ≤ k ∧ k ≤ 6) (hb : f'.2.1 ≤ f.2.1 + 4000) (H : ∀ F G, F k pl → PR l E wm (dt + 1) ch n hf 0 O c (C.map toB) (bI (decide (¬ ((tk ch n t2.2.2.2).1 = 3 ∧ (tk ch n t2.2.2.2).2.2.1 = 41)))) t2.2.2.2 [] F G) => hbad s' f' ⟨k, pl, hF, by omega, hk, fun s00 Q hQ => Fn_go (vs := vs) (wm := wm) (dt := dt) (s00 := s00) (Q := Q) hst hc hFb' et et1 et2 z0 zk y1 y2 hM hnd z5 z6 (H _ _ hQ)⟩
      have hc12 : cfP s s2 := hcf1.trans hcf2
      refine C_takeS hst (c := 40) hs2 hkc8.1 (by decide) (fun z => absurd z (by decide)) (fun y s' hF => ?_) (fun _ _ _ y => absurd y (by decide)) (fun e3' e5' _ s' y4 hF => ?_) (fun e3' e5' _ s3 hcf3 hs3 => ⟨rfl, o8x, (n8f 147 (by decide) (by decide)).trans r1.2.1, ?_⟩)
      · rw [et2] at y hF
        exact bad ⟨hc12.trans hF.1, hF.2⟩ (by decide) (by omega) (Or.inr (Or.inr (Or.inr ⟨y1, y2, hM, hnd, y, hw2.symm, rfl⟩)))
      · rw [et2] at e3' e5' y4 hF
        refine badP e3' e5' ⟨hc12.trans hF.1, hF.2⟩ (by decide) (by omega) (fun F G z => ?_)
        rw [decide_eq_true (show ¬ ((tk ch n t2.2.2.2).1 = 3 ∧ (tk ch n t2.2.2.2).2.2.1 = 41) from fun q => by omega)]
        have hw1 : wk (tk ch n t2.2.2.2) = 1 := if_pos y4
        exact PR_step hst (Nat.zero_le _) rfl (fun _ => by rw [hw1]; exact z) (fun q => absurd q (by omega)) (fun q => absurd q (by omega)) (fun q => absurd q (by omega)) (fun q => absurd q (by omega))
      · rw [et2] at e3' e5' hs3
        rw [if_pos (by decide)] at hs3
        have hp3 : t1.2.2.2 < t2.2.2.2 := by have := ht2.1.2.1; have := ht2.2.2.2.2 (by omega); omega
        have ht3 := hs3.tk
        have hc13 : cfP s s3 := hc12.trans hcf3
        have hq : ∀ m : Int32, m = bI (decide (¬ ((tk ch n t2.2.2.2).1 = 3 ∧ (tk ch n t2.2.2.2).2.2.1 = 41))) → paQ l E w wm (dt + 1) (d + 9) ch n hf x0 f.1 na ca cap c O A (C.map toB) Q m t2.2.2.2 [] s3 f8 := by
          intro m em
          subst em
          refine ⟨fun k pl s' f' q1 q2 q3 q4 => badP e3' e5' ⟨hc13.trans q1.1, q1.2⟩ q3 (by omega) q4, fun p' vs' s' f' q1 q2 q3 q4 => ?_, fun p' vs' s' f' q1 q2 q3 q4 q5 q6 q7 q8 q9 q10 => ?_⟩
          · refine hbad s' f' ⟨1, (tk ch n p').2.1, ⟨hc13.trans q1.1, q1.2⟩, by omega, by decide, fun s00 Q hQ => Fn_go (vs := vs) (wm := wm) (dt := dt) (s00 := s00) (Q := Q) hst hc hFb' et et1 et2 z0 zk y1 y2 hM hnd e3' e5' (q4 _ _ ⟨fun _ => ?_, fun z => by omega⟩)⟩
            have hw1 : wk (tk ch n p') = 1 := if_pos q3
            rw [hw1]; exact hQ
          · have own : ∀ a, a ∈ [f.1, na] → a ∈ [x0, fa] ∨ f.1 ≤ a := fun a ha => Or.inr (by simp only [List.mem_cons, List.not_mem_nil, or_false] at ha; omega)
            have ex : f'.2.2.1 x0 = f8.2.2.1 x0 := q6.ce (by omega) (fun z => by simp only [List.mem_cons, List.not_mem_nil, or_false] at z; omega)
            have ef : f'.2.2.1 fa = f8.2.2.1 fa := q6.ce (by omega) (fun z => by simp only [List.mem_cons, List.not_mem_nil, or_false] at z; omega)
            exact R_fnB (vs := vs) (wm := wm) (dt := dt) (O := O) hst h et et1 et2 z0 zk y1 y2 hM hnd e3' e5' (by omega) (by omega) ⟨hc13.trans q2, q3⟩ rfl hna (G08.trans q6 own) (by omega) (by omega) q4 q5 ((q9 153 (by decide) (by decide)).trans s8) ((q9 154 (by decide) (by decide)).trans s154) (by rw [(cellE ex).2.2]; exact hx148) (by rw [(cellE ex).2.2]; exact hx149) (fun k hk => by rw [(cellE ef).2.2]; exact hfa8 k hk) (by rw [(cellE ef).2.2]; exact hfn8) q10 hok hbad
        refine C_is hst (c := 41) hs3.2.1.1 ht3.1.1 ht3.2.2.2.1 (by decide) ⟨_, rfl, bn_b (fun q => ?_) (fun q => ?_)⟩
        · exact R_pars1 hst 5 _ [] s3 f8 (by decide) (by decide) hs3 hkc8 rd8 p8 (by rw [cb8]; omega) (hq 1 (by rw [decide_eq_true q]; rfl))
        · exact R_pars0 hst hs3 hkc8 rd8 p8 (hq 0 (by rw [decide_eq_false (fun z => z q)]; rfl))
  have main : ∀ m i, Fn.length - i ≤ m → i ≤ Fn.length → ∀ b : Bool, (b = true ↔ ((1 ≤ t1.2.2.1 ∧ t1.2.2.1 ≤ 8) ∨ ∃ k, k < i ∧ (fnm Fn).getD k 0 = t1.2.2.1)) → ExC l E w (d + 9 + 1) MX11_function 88 [some (.ref x0), some (.int (bI b)), some (.int (nI i))] [] s1 f6 Q := by
    have hlen : (fnm Fn).length = Fn.length := List.length_map ..
    intro m
    induction m with
    | zero =>
      intro i hm hi b hb
      have e : i = Fn.length := by clear hb; omega
      subst e
      exact fin b (by unfold dupN; rw [hb, mem_getD, hlen])
    | succ m ih =>
      intro i hm hi b hb
      by_cases ei : i = Fn.length
      · subst ei
        exact fin b (by unfold dupN; rw [hb, mem_getD, hlen])
      have hlt : i < Fn.length := by clear hb; omega
      refine vR11_function_88 ⟨o6x, _, x149, pk_le Fn.length i (fun z => absurd z (by clear hb; omega)) (fun z => ?_) rfl rfl (by clear hb; omega) (by clear hb; omega)⟩
      rw [← nI_succ]
      have hm' : Fn.length - (i + 1) ≤ m := by clear hb; omega
      have nx : ∀ b' : Bool, (b' = true ↔ (b = true ∨ (fnm Fn).getD i 0 = t1.2.2.1)) → ExC l E w (d + 9 + 1) MX11_function 88 [some (.ref x0), some (.int (bI b')), some (.int (nI (i + 1)))] [] s1 f6 Q := by
        intro b' hb'
        refine ih (i + 1) hm' hlt b' ?_
        rw [hb', hb]
        constructor
        · rintro ((q | ⟨k, k1, k2⟩) | q)
          · exact Or.inl q
          · exact Or.inr ⟨k, by omega, k2⟩
          · exact Or.inr ⟨i, by omega, q⟩
        · rintro (q | ⟨k, k1, k2⟩)
          · exact Or.inl (Or.inl q)
          · by_cases ek : k = i
            · subst ek; exact Or.inr k2
            · exact Or.inl (Or.inr ⟨k, by omega, k2⟩)
      cases b with
      | true => exact ⟨fun _ => nx true ⟨fun _ => Or.inl rfl, fun _ => rfl⟩, fun z => absurd z (by decide)⟩
      | false =>
        obtain ⟨q1, q2⟩ := hE i hlt
        obtain ⟨⟨q3, q4⟩, q5, q6, q7, -⟩ := q2
        have cD : f6.2.2.1 (DL i) = f.2.2.1 (DL i) := G06.ce q4 (fun z => by have := List.mem_singleton.mp z; omega)
        have hcmp : lg_cmp (lN (cv (Fn.getD i (0, 0, 0, 0, 0)).1)) (lN (cv t1.2.2.1)) = 0 ↔ (fnm Fn).getD i 0 = t1.2.2.1 := by
          rw [fnm_getD]; exact cv_cmp q7 w4
        refine ⟨fun z => absurd rfl z, fun _ => ⟨o6x, fa, x148, 7, by decide, t6f, by rw [l6f]; exact inB_n (by clear hb; omega), DL i, by rw [nI_clamp (by clear hb; omega), (cellE c6f).2.2]; exact q1, ocE cD q5, _, by rw [(cellE cD).2.2]; exact q6, o6x, f.1, x150, o6, _, s6, ?_⟩⟩
        exact ⟨fun z => nx false ⟨fun y => (by cases y), fun y => y.elim id (fun y => absurd (hcmp.mpr y) z)⟩, fun z => nx true ⟨fun _ => Or.inr (hcmp.mp z), fun _ => rfl⟩⟩
  refine main Fn.length 0 (by omega) (by omega) (decide (1 ≤ t1.2.2.1 ∧ t1.2.2.1 ≤ 8)) ?_
  rw [decide_eq_true_iff]
  constructor
  · exact fun q => Or.inl q
  · rintro (q | ⟨k, k1, -⟩)
    · exact q
    · omega
end FE6
